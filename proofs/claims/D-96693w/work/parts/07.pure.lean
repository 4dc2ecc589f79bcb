/-! THE PURE STATE: objects by their raw addresses; owned arrays by (object, field) -/
abbrev zk_St : Type := (Nat → Nat → Int32) × (Nat → Nat → Option Nat) × (Nat → Nat → Nat → Int32) × (Nat → Nat → Nat → Option Nat) × (Nat → Nat → Nat → Int64) × (Nat → Nat × Nat)
def zk_I (u : zk_St) : Nat → Nat → Int32 := u.1
def zk_P (u : zk_St) : Nat → Nat → Option Nat := u.2.1
def zk_V (u : zk_St) : Nat → Nat → Nat → Int32 := u.2.2.1
def zk_R (u : zk_St) : Nat → Nat → Nat → Option Nat := u.2.2.2.1
def zk_J (u : zk_St) : Nat → Nat → Nat → Int64 := u.2.2.2.2.1
def zk_K (u : zk_St) : Nat → Nat × Nat := u.2.2.2.2.2
def zk_u2 {α : Type} (f : Nat → Nat → α) (n k : Nat) (v : α) : Nat → Nat → α := fun a b => if a = n ∧ b = k then v else f a b
def zk_n1 {α : Type} (f : Nat → α) (n : Nat) (v : α) : Nat → α := fun a => if a = n then v else f a
def zk_setI (u : zk_St) (n k : Nat) (v : Int32) : zk_St := (zk_u2 u.1 n k v, u.2)
def zk_setP (u : zk_St) (n k : Nat) (v : Option Nat) : zk_St := (u.1, zk_u2 u.2.1 n k v, u.2.2)
def zk_setV (u : zk_St) (n k : Nat) (v : Nat → Int32) : zk_St := (u.1, u.2.1, zk_u2 u.2.2.1 n k v, u.2.2.2)
def zk_setR (u : zk_St) (n k : Nat) (v : Nat → Option Nat) : zk_St := (u.1, u.2.1, u.2.2.1, zk_u2 u.2.2.2.1 n k v, u.2.2.2.2)
def zk_setJ (u : zk_St) (n k : Nat) (v : Nat → Int64) : zk_St := (u.1, u.2.1, u.2.2.1, u.2.2.2.1, zk_u2 u.2.2.2.2.1 n k v, u.2.2.2.2.2)
/-- a new object, all its fields and owned arrays zero -/
def zk_new (u : zk_St) (q c len : Nat) : zk_St := (zk_n1 u.1 q (fun _ => 0), zk_n1 u.2.1 q (fun _ => none), zk_n1 u.2.2.1 q (fun _ _ => 0), zk_n1 u.2.2.2.1 q (fun _ _ => none), zk_n1 u.2.2.2.2.1 q (fun _ _ => 0), zk_n1 u.2.2.2.2.2 q (c, len))
def zk_lt {α : Type} (e : α) (f : α → Prop) : Prop := f e
/-- an object is made, anywhere -/
def zk_al (u : zk_St) (c len : Nat) (f : Nat → zk_St → Prop) : Prop := ∀ q : Nat, (zk_K u q).1 = 0 → f q (zk_new u q c len)
/-- a reference that isn't null -/
def zk_de (o : Option Nat) (f : Nat → Prop) : Prop := ∃ q : Nat, o = some q ∧ f q
def zk_mt (o : Option Nat) (a : Prop) (f : Nat → Prop) : Prop := match o with
  | none => a
  | some q => f q
def zk_isV (c : Nat) : Prop := 5 ≤ c ∧ c ≤ 11
def zk_isR (c : Nat) : Prop := 16 ≤ c ∧ c ≤ 19
/-- the literals' letters: 0 tune, 1 voice, 2 knows, 3 moves, 4 wait -/
def zk_tx (w : Nat) : List Nat := match w with
  | 0 => [116, 117, 110, 101]
  | 1 => [118, 111, 105, 99, 101]
  | 2 => [107, 110, 111, 119, 115]
  | 3 => [109, 111, 118, 101, 115]
  | _ => [119, 97, 105, 116]
