/-! HOW THE PURE STATE LIES IN THE HEAP -/
abbrev zk_cl : List vw_C := [(RX0, TX0, 14), (RX1, TX1, 2), (RX2, TX2, 9), (RX3, TX3, 8), (RX4, TX4, 4), (RX5, TX5, 4), (RX6, TX6, 4), (RX7, TX7, 4), (RX8, TX8, 4), (RX9, TX9, 4), (RX10, TX10, 4), (RX11, TX11, 1), (RX12, TX12, 29), (RX13, TX13, 7), (RX15, TX15, 1), (RX15, TX15, 1), (RX16, TX16, 1), (RX17, TX17, 1), (RX18, TX18, 1), (RX19, TX19, 4), (RX20, TX20, 7)]
def zk_tyA (t : Nat) : FieldType := match t with
  | 0 => .int
  | 1 => .byte
  | 2 => .short
  | 3 => .long
  | 4 => .object "WhichOneAllKnow$Voice"
  | _ => .object "WhichOneAllKnow$Shelf"
abbrev zk_tys (ca : Nat → ClassId) : List (ClassId × FieldType) := [(ca 0, .int), (ca 1, .byte), (ca 2, .short), (ca 3, .long), (ca 4, .object "WhichOneAllKnow$Voice"), (ca 5, .object "WhichOneAllKnow$Shelf")]
/-- the fields of a class (number + 1): 0 an int, 1 a reference, 2 an owned array -/
def zk_lay (c : Nat) : List Nat := match c with
  | 1 => [2, 2, 1, 1, 1, 1, 1, 0, 2, 1, 0, 0, 0, 0]
  | 2 => [2, 0]
  | 3 => [0, 0, 0, 0, 0, 2, 2, 2, 2]
  | 4 => [2, 2, 2, 2, 1, 0, 0, 0]
  | 5 => [0, 0, 0, 0]
  | 6 => [0, 0, 0, 0]
  | 7 => [0, 0, 0, 0]
  | 8 => [0, 0, 0, 0]
  | 9 => [0, 0, 0, 0]
  | 10 => [0, 0, 0, 0]
  | 11 => [0, 0, 0, 0]
  | 12 => [1]
  | 13 => [2, 2, 2, 0, 2, 2, 2, 2, 2, 2, 0, 2, 0, 0, 0, 0, 0, 0, 2, 0, 2, 2, 0, 2, 2, 2, 2, 2, 0]
  | 14 => [1, 1, 1, 1, 1, 0, 0]
  | 16 => [2]
  | 17 => [2]
  | 18 => [2]
  | 19 => [2]
  | 20 => [1, 1, 0, 0]
  | 21 => [1, 1, 1, 1, 1, 0, 0]
  | _ => []
/-- an owned array: its element type's number and its length -/
def zk_ar (K : Nat × Nat) (k : Nat) : Option (Nat × Nat) := match K.1, k with
  | 1, 0 => some (5, 8)
  | 1, 1 => some (0, 8)
  | 1, 8 => some (0, 6)
  | 2, 0 => some (0, 20)
  | 3, 5 => some (0, 6)
  | 3, 6 => some (4, 14)
  | 3, 7 => some (0, 14)
  | 3, 8 => some (0, 14)
  | 4, 0 => some (0, 44)
  | 4, 1 => some (0, 44)
  | 4, 2 => some (0, 44)
  | 4, 3 => some (0, 14)
  | 13, 0 => some (0, 8)
  | 13, 1 => some (0, 8)
  | 13, 2 => some (3, 1280)
  | 13, 4 => some (0, 14)
  | 13, 5 => some (0, 14)
  | 13, 6 => some (0, 14)
  | 13, 7 => some (0, 14)
  | 13, 8 => some (0, 14)
  | 13, 9 => some (0, 14)
  | 13, 11 => some (0, 6)
  | 13, 18 => some (0, 5)
  | 13, 20 => some (0, 20)
  | 13, 21 => some (0, 8)
  | 13, 23 => some (0, 83)
  | 13, 24 => some (0, 83)
  | 13, 25 => some (0, 44)
  | 13, 26 => some (0, 44)
  | 13, 27 => some (0, 44)
  | 16, 0 => some (1, K.2)
  | 17, 0 => some (2, K.2)
  | 18, 0 => some (0, K.2)
  | 19, 0 => some (3, K.2)
  | _, _ => none
theorem zk_ar_0 {K : Nat × Nat} {k : Nat} (h : K.1 = 0) : zk_ar K k = none := by
  obtain ⟨c, n⟩ := K
  simp only at h
  subst h
  rfl
def zk_fv (B : Nat → Nat → Nat) (u : zk_St) (n k s : Nat) : Value := match s with
  | 0 => .int (zk_I u n k)
  | 1 => va_rf (zk_P u n k)
  | _ => .ref (B n k)
def zk_fl (B : Nat → Nat → Nat) (u : zk_St) (n : Nat) : Nat → List Nat → List Value
  | _, [] => []
  | k, s :: L => zk_fv B u n k s :: zk_fl B u n (k + 1) L
theorem zk_fl_get {B : Nat → Nat → Nat} {u : zk_St} {n : Nat} : ∀ (L : List Nat) (k0 k : Nat), (zk_fl B u n k0 L)[k]? = (L[k]?).map (zk_fv B u n (k0 + k)) := by
  intro L
  induction L with
  | nil => intro k0 k; simp [zk_fl]
  | cons s L ih =>
    intro k0 k
    cases k with
    | zero => simp [zk_fl]
    | succ k => simp only [zk_fl, List.getElem?_cons_succ, ih]; rw [show k0 + 1 + k = k0 + (k + 1) by omega]
theorem zk_fl_len {B : Nat → Nat → Nat} {u : zk_St} {n : Nat} : ∀ (L : List Nat) (k0 : Nat), (zk_fl B u n k0 L).length = L.length := by
  intro L
  induction L with
  | nil => intro k0; rfl
  | cons s L ih => intro k0; simp [zk_fl, ih]
def zk_cn (u : zk_St) (t n k : Nat) : (Nat → Int32) ⊕ (Nat → Int64) ⊕ (Nat → UInt32) ⊕ (Nat → UInt64) ⊕ (Nat → Option Nat) := match t with
  | 3 => .inr (.inl (zk_J u n k))
  | 4 => .inr (.inr (.inr (.inr (zk_R u n k))))
  | 5 => .inr (.inr (.inr (.inr (zk_R u n k))))
  | _ => .inl (zk_V u n k)
def zk_ent (ca : Nat → ClassId) (B : Nat → Nat → Nat) (u : zk_St) (n : Nat) : Nat → Option va_E
  | 0 => if (zk_K u n).1 = 0 then none else some (.inr ((zk_K u n).1 - 1, zk_fl B u n 0 (zk_lay (zk_K u n).1)))
  | k + 1 => (zk_ar (zk_K u n) k).map fun a => .inl (ca a.1, a.2, zk_cn u a.1 n k)
def zk_ax (B : Nat → Nat → Nat) (n : Nat) : Nat → Nat
  | 0 => n
  | k + 1 => B n k
def zk_cell (ca : Nat → ClassId) (B : Nat → Nat → Nat) (u : zk_St) (x : Nat × Nat) : Nat × va_E := (zk_ax B x.1 x.2, (zk_ent ca B u x.1 x.2).getD (.inr (0, [])))
abbrev zk_Wl (ca : Nat → ClassId) (B : Nat → Nat → Nat) (u : zk_St) (LN : List (Nat × Nat)) : va_W := LN.map (zk_cell ca B u)
def zk_Rep (G : va_G) (ca : Nat → ClassId) (A : Nat → Prop) (B : Nat → Nat → Nat) (u : zk_St) (H : Heap) : Prop :=
  ∃ LN : List (Nat × Nat), (∀ n i, zk_ent ca B u n i ≠ none ↔ (n, i) ∈ LN) ∧ va_P G zk_cl (zk_Wl ca B u LN) H ∧ va_D A (zk_Wl ca B u LN)
theorem zk_pos {ca : Nat → ClassId} {B : Nat → Nat → Nat} {u : zk_St} {LN : List (Nat × Nat)} (hL : ∀ n i, zk_ent ca B u n i ≠ none ↔ (n, i) ∈ LN) {n i : Nat} {e : va_E} (h : zk_ent ca B u n i = some e) :
    ∃ q0 : Nat, LN[q0]? = some (n, i) ∧ (zk_Wl ca B u LN)[q0]? = some (zk_ax B n i, e) := by
  have hm : (n, i) ∈ LN := (hL n i).mp (by rw [h]; exact fun q => by cases q)
  obtain ⟨q0, hq⟩ := List.getElem?_of_mem hm
  refine ⟨q0, hq, ?_⟩
  simp only [zk_Wl, List.getElem?_map, hq, Option.map_some, zk_cell, h, Option.getD_some]
theorem zk_entO {ca : Nat → ClassId} {B : Nat → Nat → Nat} {u : zk_St} {n c : Nat} (hk : (zk_K u n).1 = c) (h0 : c ≠ 0) : zk_ent ca B u n 0 = some (.inr (c - 1, zk_fl B u n 0 (zk_lay c))) := by
  subst hk
  simp only [zk_ent, if_neg h0]
theorem zk_entA {ca : Nat → ClassId} {B : Nat → Nat → Nat} {u : zk_St} {n k t len : Nat} (h : zk_ar (zk_K u n) k = some (t, len)) : zk_ent ca B u n (k + 1) = some (.inl (ca t, len, zk_cn u t n k)) := by
  simp only [zk_ent, h, Option.map_some]
/-- a cell is changed: the world's list, in the new state's words -/
theorem zk_set {ca : Nat → ClassId} {B : Nat → Nat → Nat} {A : Nat → Prop} {u u' : zk_St} {LN : List (Nat × Nat)} (hD : va_D A (zk_Wl ca B u LN)) {q0 n i : Nat} {e' : va_E} (hq : LN[q0]? = some (n, i)) (he : zk_ent ca B u' n i = some e') (ho : ∀ n' i', ¬ (n' = n ∧ i' = i) → zk_ent ca B u' n' i' = zk_ent ca B u n' i') :
    (zk_Wl ca B u LN).set q0 (zk_ax B n i, e') = zk_Wl ca B u' LN := by
  apply List.ext_getElem?
  intro j
  have hl : q0 < LN.length := (List.getElem?_eq_some_iff.mp hq).1
  by_cases hj : j = q0
  · subst hj
    rw [List.getElem?_set_self (by simpa using hl)]
    simp only [zk_Wl, List.getElem?_map, hq, Option.map_some, zk_cell, he, Option.getD_some]
  · rw [List.getElem?_set_ne (Ne.symm hj)]
    simp only [zk_Wl, List.getElem?_map]
    cases hx : LN[j]? with
    | none => rfl
    | some x =>
      obtain ⟨n', i'⟩ := x
      simp only [Option.map_some, zk_cell]
      rw [ho n' i' (fun h => hj ?_)]
      obtain ⟨rfl, rfl⟩ := h
      exact hD.1 j q0 _ _ (by simp only [zk_Wl, List.getElem?_map, hx, Option.map_some] <;> rfl) (by simp only [zk_Wl, List.getElem?_map, hq, Option.map_some] <;> rfl) rfl
/-- the pure state behind a change of one cell -/
theorem zk_Rep.change {G : va_G} {ca : Nat → ClassId} {A : Nat → Prop} {B : Nat → Nat → Nat} {u u' : zk_St} {LN : List (Nat × Nat)} {H : Heap} (hL : ∀ n i, zk_ent ca B u n i ≠ none ↔ (n, i) ∈ LN) (hD : va_D A (zk_Wl ca B u LN)) {q0 n i : Nat} {e' : va_E} (hq : LN[q0]? = some (n, i)) (he : zk_ent ca B u' n i = some e') (ho : ∀ n' i', ¬ (n' = n ∧ i' = i) → zk_ent ca B u' n' i' = zk_ent ca B u n' i')
    (hP1 : va_P G zk_cl ((zk_Wl ca B u LN).set q0 (zk_ax B n i, e')) H) (hD1 : va_D A ((zk_Wl ca B u LN).set q0 (zk_ax B n i, e'))) : zk_Rep G ca A B u' H := by
  rw [zk_set hD hq he ho] at hP1 hD1
  refine ⟨LN, fun n' i' => ?_, hP1, hD1⟩
  by_cases h : n' = n ∧ i' = i
  · obtain ⟨rfl, rfl⟩ := h
    exact ⟨fun _ => List.mem_of_getElem? hq, fun _ => by rw [he]; exact fun q => by cases q⟩
  · rw [ho n' i' h]
    exact hL n' i'
theorem zk_fl_congr {B : Nat → Nat → Nat} {u u' : zk_St} {n : Nat} : ∀ (L : List Nat) (k0 : Nat), (∀ k, zk_I u' n k = zk_I u n k) → (∀ k, zk_P u' n k = zk_P u n k) → zk_fl B u' n k0 L = zk_fl B u n k0 L := by
  intro L
  induction L with
  | nil => intros; rfl
  | cons s L ih =>
    intro k0 h1 h2
    simp only [zk_fl, ih (k0 + 1) h1 h2]
    congr 1
    unfold zk_fv
    split <;> simp [h1, h2]
theorem zk_fl_set {B : Nat → Nat → Nat} {u u' : zk_St} {n k : Nat} {v : Value} : ∀ (L : List Nat) (k0 : Nat), (∀ j s, j ≠ k → zk_fv B u' n j s = zk_fv B u n j s) → (∀ s, L[k - k0]? = some s → zk_fv B u' n k s = v) → k0 ≤ k → k < k0 + L.length → zk_fl B u' n k0 L = (zk_fl B u n k0 L).set (k - k0) v := by
  intro L
  induction L with
  | nil => intro k0 _ _ h1 h2; simp at h2; omega
  | cons s L ih =>
    intro k0 h1 h2 h3 h4
    by_cases hk : k = k0
    · subst hk
      simp only [zk_fl, Nat.sub_self, List.set_cons_zero]
      rw [h2 s (by simp)]
      congr 1
      clear ih h2 h3 h4
      have : ∀ (L : List Nat) (k0 : Nat), k < k0 → zk_fl B u' n k0 L = zk_fl B u n k0 L := by
        intro L
        induction L with
        | nil => intros; rfl
        | cons s L ih => intro k0 h; simp only [zk_fl, ih (k0 + 1) (by omega), h1 k0 s (by omega)]
      exact this L (k + 1) (by omega)
    · have e : k - k0 = (k - (k0 + 1)) + 1 := by omega
      simp only [zk_fl, e, List.set_cons_succ]
      rw [h1 k0 s (by omega), ih (k0 + 1) h1 (fun s hs => h2 s (by rw [e, List.getElem?_cons_succ]; exact hs)) (by omega) (by simp at h4; omega)]
/-! entries behind a change -/
section ZKENT
variable {ca : Nat → ClassId} {B : Nat → Nat → Nat} {u : zk_St}
theorem zk_ent_same {u' : zk_St} {n' : Nat} (hK : zk_K u' n' = zk_K u n') (hI : ∀ k, zk_I u' n' k = zk_I u n' k) (hP : ∀ k, zk_P u' n' k = zk_P u n' k) (i' : Nat) (hV : ∀ k, i' = k + 1 → zk_V u' n' k = zk_V u n' k) (hR : ∀ k, i' = k + 1 → zk_R u' n' k = zk_R u n' k) (hJ : ∀ k, i' = k + 1 → zk_J u' n' k = zk_J u n' k) : zk_ent ca B u' n' i' = zk_ent ca B u n' i' := by
  cases i' with
  | zero => simp only [zk_ent, hK, zk_fl_congr (B := B) (u := u) (u' := u') (n := n') _ 0 hI hP]
  | succ k =>
    simp only [zk_ent, hK]
    congr 1
    funext a
    congr 3
    unfold zk_cn
    split <;> simp [hV k rfl, hR k rfl, hJ k rfl]
theorem zk_I_setI {n k : Nat} {v : Int32} {a b : Nat} : zk_I (zk_setI u n k v) a b = if a = n ∧ b = k then v else zk_I u a b := rfl
theorem zk_P_setP {n k : Nat} {v : Option Nat} {a b : Nat} : zk_P (zk_setP u n k v) a b = if a = n ∧ b = k then v else zk_P u a b := rfl
theorem zk_V_setV {n k : Nat} {v : Nat → Int32} {a b : Nat} : zk_V (zk_setV u n k v) a b = if a = n ∧ b = k then v else zk_V u a b := rfl
theorem zk_R_setR {n k : Nat} {v : Nat → Option Nat} {a b : Nat} : zk_R (zk_setR u n k v) a b = if a = n ∧ b = k then v else zk_R u a b := rfl
theorem zk_J_setJ {n k : Nat} {v : Nat → Int64} {a b : Nat} : zk_J (zk_setJ u n k v) a b = if a = n ∧ b = k then v else zk_J u a b := rfl
theorem zk_setI_o {n k : Nat} {v : Int32} (n' i' : Nat) (h : ¬ (n' = n ∧ i' = 0)) : zk_ent ca B (zk_setI u n k v) n' i' = zk_ent ca B u n' i' := by
  cases i' with
  | zero =>
    have hn : n' ≠ n := fun e => h ⟨e, rfl⟩
    refine zk_ent_same (u := u) (u' := zk_setI u n k v) rfl (fun j => ?_) (fun j => rfl) 0 (fun j e => rfl) (fun j e => rfl) (fun j e => rfl)
    rw [zk_I_setI, if_neg (fun e => hn e.1)]
  | succ j => rfl
theorem zk_setP_o {n k : Nat} {v : Option Nat} (n' i' : Nat) (h : ¬ (n' = n ∧ i' = 0)) : zk_ent ca B (zk_setP u n k v) n' i' = zk_ent ca B u n' i' := by
  cases i' with
  | zero =>
    have hn : n' ≠ n := fun e => h ⟨e, rfl⟩
    refine zk_ent_same (u := u) (u' := zk_setP u n k v) rfl (fun j => rfl) (fun j => ?_) 0 (fun j e => rfl) (fun j e => rfl) (fun j e => rfl)
    rw [zk_P_setP, if_neg (fun e => hn e.1)]
  | succ j => rfl
theorem zk_setV_o {n k : Nat} {v : Nat → Int32} (n' i' : Nat) (h : ¬ (n' = n ∧ i' = k + 1)) : zk_ent ca B (zk_setV u n k v) n' i' = zk_ent ca B u n' i' := by
  refine zk_ent_same (u := u) (u' := zk_setV u n k v) rfl (fun j => rfl) (fun j => rfl) i' (fun j e => ?_) (fun j e => rfl) (fun j e => rfl)
  rw [zk_V_setV, if_neg (fun q => h ⟨q.1, by rw [e, q.2]⟩)]
theorem zk_setR_o {n k : Nat} {v : Nat → Option Nat} (n' i' : Nat) (h : ¬ (n' = n ∧ i' = k + 1)) : zk_ent ca B (zk_setR u n k v) n' i' = zk_ent ca B u n' i' := by
  refine zk_ent_same (u := u) (u' := zk_setR u n k v) rfl (fun j => rfl) (fun j => rfl) i' (fun j e => rfl) (fun j e => ?_) (fun j e => rfl)
  rw [zk_R_setR, if_neg (fun q => h ⟨q.1, by rw [e, q.2]⟩)]
theorem zk_setJ_o {n k : Nat} {v : Nat → Int64} (n' i' : Nat) (h : ¬ (n' = n ∧ i' = k + 1)) : zk_ent ca B (zk_setJ u n k v) n' i' = zk_ent ca B u n' i' := by
  refine zk_ent_same (u := u) (u' := zk_setJ u n k v) rfl (fun j => rfl) (fun j => rfl) i' (fun j e => rfl) (fun j e => rfl) (fun j e => ?_)
  rw [zk_J_setJ, if_neg (fun q => h ⟨q.1, by rw [e, q.2]⟩)]
theorem zk_setI_e {n k c : Nat} {v : Int32} (hk : (zk_K u n).1 = c) (h0 : c ≠ 0) (hs : (zk_lay c)[k]? = some 0) : zk_ent ca B (zk_setI u n k v) n 0 = some (.inr (c - 1, (zk_fl B u n 0 (zk_lay c)).set k (.int v))) := by
  rw [zk_entO (u := zk_setI u n k v) hk h0, zk_fl_set (u := u) (k := k) (v := .int v) (zk_lay c) 0 ?_ ?_ (Nat.zero_le _) ?_]
  · rfl
  · intro j s hj
    unfold zk_fv
    split
    · rw [zk_I_setI, if_neg (fun q => hj q.2)]
    · rfl
    · rfl
  · intro s h
    rw [Nat.sub_zero, hs] at h
    cases h
    show Value.int (zk_I (zk_setI u n k v) n k) = _
    rw [zk_I_setI, if_pos ⟨rfl, rfl⟩]
  · have := (List.getElem?_eq_some_iff.mp hs).1
    omega
theorem zk_setP_e {n k c : Nat} {v : Option Nat} (hk : (zk_K u n).1 = c) (h0 : c ≠ 0) (hs : (zk_lay c)[k]? = some 1) : zk_ent ca B (zk_setP u n k v) n 0 = some (.inr (c - 1, (zk_fl B u n 0 (zk_lay c)).set k (va_rf v))) := by
  rw [zk_entO (u := zk_setP u n k v) hk h0, zk_fl_set (u := u) (k := k) (v := va_rf v) (zk_lay c) 0 ?_ ?_ (Nat.zero_le _) ?_]
  · rfl
  · intro j s hj
    unfold zk_fv
    split
    · rfl
    · rw [zk_P_setP, if_neg (fun q => hj q.2)]
    · rfl
  · intro s h
    rw [Nat.sub_zero, hs] at h
    cases h
    show va_rf (zk_P (zk_setP u n k v) n k) = _
    rw [zk_P_setP, if_pos ⟨rfl, rfl⟩]
  · have := (List.getElem?_eq_some_iff.mp hs).1
    omega
theorem zk_setV_e {n k t len : Nat} {v : Nat → Int32} (ha : zk_ar (zk_K u n) k = some (t, len)) (ht : t < 3) : zk_ent ca B (zk_setV u n k v) n (k + 1) = some (.inl (ca t, len, .inl v)) := by
  rw [zk_entA (u := zk_setV u n k v) ha]
  have : zk_cn (zk_setV u n k v) t n k = .inl v := by
    match t, ht with
    | 0, _ => show Sum.inl (zk_V (zk_setV u n k v) n k) = _; rw [zk_V_setV, if_pos ⟨rfl, rfl⟩]
    | 1, _ => show Sum.inl (zk_V (zk_setV u n k v) n k) = _; rw [zk_V_setV, if_pos ⟨rfl, rfl⟩]
    | 2, _ => show Sum.inl (zk_V (zk_setV u n k v) n k) = _; rw [zk_V_setV, if_pos ⟨rfl, rfl⟩]
  rw [this]
theorem zk_setR_e {n k t len : Nat} {v : Nat → Option Nat} (ha : zk_ar (zk_K u n) k = some (t, len)) (ht : t = 4 ∨ t = 5) : zk_ent ca B (zk_setR u n k v) n (k + 1) = some (.inl (ca t, len, .inr (.inr (.inr (.inr v))))) := by
  rw [zk_entA (u := zk_setR u n k v) ha]
  have : zk_cn (zk_setR u n k v) t n k = .inr (.inr (.inr (.inr v))) := by
    rcases ht with rfl | rfl
    · show Sum.inr (Sum.inr (Sum.inr (Sum.inr (zk_R (zk_setR u n k v) n k)))) = _; rw [zk_R_setR, if_pos ⟨rfl, rfl⟩]
    · show Sum.inr (Sum.inr (Sum.inr (Sum.inr (zk_R (zk_setR u n k v) n k)))) = _; rw [zk_R_setR, if_pos ⟨rfl, rfl⟩]
  rw [this]
theorem zk_setJ_e {n k len : Nat} {v : Nat → Int64} (ha : zk_ar (zk_K u n) k = some (3, len)) : zk_ent ca B (zk_setJ u n k v) n (k + 1) = some (.inl (ca 3, len, .inr (.inl v))) := by
  rw [zk_entA (u := zk_setJ u n k v) ha]
  have : zk_cn (zk_setJ u n k v) 3 n k = .inr (.inl v) := by
    show Sum.inr (Sum.inl (zk_J (zk_setJ u n k v) n k)) = _; rw [zk_J_setJ, if_pos ⟨rfl, rfl⟩]
  rw [this]
end ZKENT
