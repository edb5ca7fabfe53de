/-! THE INDEX HEAP: cells 0..N-1 of the world, at addresses ad k; the judgement WX over it, and its rows (printed by gen/mkbase.py) -/
set_option maxRecDepth 100000
def clT : List vw_C := [(RX0, TX0, 18), (RX2, TX2, 2), (RX3, TX3, 2), (RX4, TX4, 3), (RX5, TX5, 3), (RX6, TX6, 3), (RX7, TX7, 17), (RX8, (fun _ => ("", "", "", false)), 0), (RX9, (fun _ => ("", "", "", false)), 0), (RX10, (fun _ => ("", "", "", false)), 0), (RX11, (fun _ => ("", "", "", false)), 0), (RX12, (fun _ => ("", "", "", false)), 0), (RX13, (fun _ => ("", "", "", false)), 0), (RX14, TX14, 7), (RX15, TX15, 7), (RX16, TX16, 7), (RX17, TX17, 5), (RX18, TX18, 6), (RX19, TX19, 6), (RX20, TX20, 3), (RX21, TX21, 39), (RX22, TX22, 1), (RX24, TX24, 4), (RX25, TX25, 5), (RX26, TX26, 4), (RX27, TX27, 5), (RX28, TX28, 5)]
/-- how many fields a class has that are told -/
def nf (c : Nat) : Nat := match c with
  | 0 => 18
  | 1 => 2
  | 2 => 2
  | 3 => 3
  | 4 => 3
  | 5 => 3
  | 6 => 17
  | 7 => 0
  | 8 => 0
  | 9 => 0
  | 10 => 0
  | 11 => 0
  | 12 => 0
  | 13 => 7
  | 14 => 7
  | 15 => 7
  | 16 => 5
  | 17 => 6
  | 18 => 6
  | 19 => 3
  | 20 => 39
  | 21 => 1
  | 22 => 4
  | 23 => 5
  | 24 => 4
  | 25 => 5
  | 26 => 5
  | _ => 0
/-- a field's sort: 0 an int (or what is kept as one), 1 a long, 2 a reference -/
def fk (c j : Nat) : Nat := match c, j with
  | 0, 0 => 2
  | 0, 1 => 2
  | 0, 2 => 2
  | 0, 3 => 2
  | 0, 4 => 2
  | 0, 6 => 2
  | 0, 8 => 2
  | 0, 10 => 2
  | 0, 12 => 2
  | 0, 13 => 2
  | 0, 14 => 2
  | 0, 15 => 2
  | 0, 17 => 2
  | 1, 0 => 2
  | 1, 1 => 2
  | 2, 0 => 2
  | 2, 1 => 2
  | 3, 0 => 2
  | 3, 1 => 2
  | 3, 2 => 2
  | 4, 0 => 2
  | 4, 1 => 2
  | 4, 2 => 2
  | 5, 0 => 2
  | 5, 1 => 2
  | 5, 2 => 2
  | 6, 0 => 2
  | 6, 1 => 2
  | 6, 8 => 2
  | 6, 9 => 2
  | 6, 10 => 2
  | 6, 11 => 2
  | 6, 12 => 2
  | 6, 13 => 2
  | 6, 14 => 2
  | 6, 15 => 2
  | 6, 16 => 2
  | 13, 6 => 2
  | 14, 0 => 2
  | 14, 1 => 2
  | 14, 2 => 2
  | 14, 3 => 2
  | 15, 0 => 2
  | 15, 1 => 2
  | 15, 2 => 2
  | 15, 3 => 2
  | 15, 4 => 2
  | 16, 0 => 2
  | 16, 1 => 2
  | 16, 2 => 2
  | 16, 3 => 2
  | 17, 0 => 2
  | 17, 1 => 2
  | 17, 2 => 2
  | 17, 3 => 2
  | 17, 4 => 2
  | 18, 0 => 2
  | 18, 1 => 2
  | 18, 2 => 2
  | 18, 3 => 2
  | 18, 4 => 2
  | 19, 2 => 2
  | 20, 0 => 2
  | 20, 2 => 2
  | 20, 3 => 2
  | 20, 4 => 2
  | 20, 6 => 2
  | 20, 7 => 2
  | 20, 9 => 2
  | 20, 11 => 2
  | 20, 16 => 1
  | 20, 21 => 2
  | 20, 23 => 2
  | 20, 24 => 2
  | 20, 25 => 2
  | 20, 26 => 2
  | 20, 27 => 2
  | 20, 28 => 2
  | 20, 32 => 2
  | 20, 36 => 2
  | 20, 38 => 2
  | 21, 0 => 2
  | 22, 2 => 2
  | 22, 3 => 2
  | 23, 2 => 2
  | 23, 3 => 2
  | 23, 4 => 2
  | 24, 2 => 2
  | 24, 3 => 2
  | 25, 2 => 2
  | 25, 3 => 2
  | 25, 4 => 2
  | 26, 2 => 2
  | 26, 3 => 2
  | 26, 4 => 2
  | _, _ => 0
/-- a value of the index heap, as the machine has it: an index is a cell's address; a retAddr stands for an address outside the world -/
def cv (ad : Nat → Nat) (v : Value) : Value := match v with
  | .ref k => .ref (ad k)
  | .retAddr a => .ref a
  | w => w
def rfo (ad : Nat → Nat) (v : Value) : Option Nat := match v with
  | .ref k => some (ad k)
  | .retAddr a => some a
  | _ => none
def okv (N : Nat) (v : Value) : Prop := match v with
  | .ref k => k < N
  | _ => True
def rfk (v : Value) : Prop := match v with
  | .ref _ => True
  | .retAddr _ => True
  | .null => True
  | _ => False
theorem cv_cat (ad : Nat → Nat) (v : Value) : (cv ad v).category = v.category := by cases v <;> rfl
theorem cv_rfo {ad : Nat → Nat} {v : Value} (h : rfk v) : va_rf (rfo ad v) = cv ad v := by cases v <;> first | rfl | exact False.elim h
theorem cv_up {ad : Nat → Nat} {N a : Nat} {v : Value} (h : okv N v) : cv (va_up ad N a) v = cv ad v := by
  cases v <;> try rfl
  case ref k => exact congrArg Value.ref (if_neg (Nat.ne_of_lt h))
theorem rfo_up {ad : Nat → Nat} {N a : Nat} {v : Value} (h : okv N v) : rfo (va_up ad N a) v = rfo ad v := by
  cases v <;> try rfl
  case ref k => exact congrArg some (if_neg (Nat.ne_of_lt h))
/-- shape and references: how many cells, their sorts, lengths, references; contents: ints and longs -/
abbrev GG : Type := Nat × (Nat → Nat) × (Nat → Nat) × (Nat → Nat → Value)
abbrev MM : Type := (Nat → Nat → Int32) × (Nat → Nat → Int64)
/-- class numbers, array classes, addresses of text constants and of their bytes -/
abbrev XE : Type := va_G × (Nat → ClassId) × (Nat → Nat) × (Nat → Nat)
def fval (ad : Nat → Nat) (t : Nat) (x : Int32) (y : Int64) (r : Value) : Value := match t with
  | 0 => .int x
  | 1 => .long y
  | _ => cv ad r
def fields (ad : Nat → Nat) (c : Nat) (r : Nat → Value) (f : Nat → Int32) (g : Nat → Int64) : List Value := (List.range (nf c)).map (fun j => fval ad (fk c j) (f j) (g j) (r j))
def cellK (X : XE) (ad : Nat → Nat) (c n : Nat) (r : Nat → Value) (f : Nat → Int32) (g : Nat → Int64) : va_E :=
  if c < 100 then .inr (c, fields ad c r f g) else if c < 104 then .inl (X.2.1 c, n, .inl f) else if c < 105 then .inl (X.2.1 c, n, .inr (.inl g)) else .inl (X.2.1 c, n, .inr (.inr (.inr (.inr (fun j => rfo ad (r j))))))
def cellA (X : XE) (ad : Nat → Nat) (G : GG) (M : MM) (k : Nat) : va_E := cellK X ad (G.2.1 k) (G.2.2.1 k) (G.2.2.2 k) (M.1 k) (M.2 k)
def wsW (X : XE) (ad : Nat → Nat) (G : GG) (M : MM) : va_W := (List.range G.1).map (fun k => (ad k, cellA X ad G M k))
def World (X : XE) (A : Nat → Prop) (ad : Nat → Nat) (G : GG) (M : MM) (H : Heap) : Prop :=
  va_P X.1 clT (wsW X ad G M) H ∧ va_D A (wsW X ad G M) ∧ ∀ k, k < G.1 → ∀ j, okv G.1 (G.2.2.2 k j) ∧ rfk (G.2.2.2 k j)
def isK (G : GG) (q c : Nat) : Prop := q < G.1 ∧ G.2.1 q = c
def mI (M : MM) (q j : Nat) (x : Int32) : MM := (fun a b => if a = q ∧ b = j then x else M.1 a b, M.2)
def mL (M : MM) (q j : Nat) (x : Int64) : MM := (M.1, fun a b => if a = q ∧ b = j then x else M.2 a b)
def mR (G : GG) (q j : Nat) (v : Value) : GG := (G.1, G.2.1, G.2.2.1, fun a b => if a = q ∧ b = j then v else G.2.2.2 a b)
/-- a new cell -/
def gN (G : GG) (c n : Nat) : GG := (G.1 + 1, fun k => if k = G.1 then c else G.2.1 k, fun k => if k = G.1 then n else G.2.2.1 k, fun k j => if k = G.1 then .null else G.2.2.2 k j)
def mN (N : Nat) (M : MM) : MM := (fun a b => if a = N then 0 else M.1 a b, fun a b => if a = N then 0 else M.2 a b)
/-- a piece of an int array becomes another's -/
def mC (M : MM) (q0 s q1 d n : Nat) : MM := (fun a b => if a = q1 ∧ d ≤ b ∧ b < d + n then M.1 q0 (s + (b - d)) else M.1 a b, M.2)
theorem ws_at {X : XE} {ad : Nat → Nat} {G : GG} {M : MM} {q : Nat} (h : q < G.1) : (wsW X ad G M)[q]? = some (ad q, cellA X ad G M q) := by
  simp [wsW, h]
theorem ws_len {X : XE} {ad : Nat → Nat} {G : GG} {M : MM} : (wsW X ad G M).length = G.1 := by simp [wsW]
theorem ws_obj {X : XE} {ad : Nat → Nat} {G : GG} {M : MM} {q c : Nat} (h : isK G q c) (hc : c < 100) : (wsW X ad G M)[q]? = some (ad q, .inr (c, fields ad c (G.2.2.2 q) (M.1 q) (M.2 q))) := by
  rw [ws_at h.1, cellA, h.2, cellK, if_pos hc]
theorem ws_arrI {X : XE} {ad : Nat → Nat} {G : GG} {M : MM} {q c : Nat} (h : isK G q c) (h1 : ¬ c < 100) (h2 : c < 104) : (wsW X ad G M)[q]? = some (ad q, .inl (X.2.1 c, G.2.2.1 q, .inl (M.1 q))) := by
  rw [ws_at h.1, cellA, h.2, cellK, if_neg h1, if_pos h2]
theorem ws_arrL {X : XE} {ad : Nat → Nat} {G : GG} {M : MM} {q : Nat} (h : isK G q 104) : (wsW X ad G M)[q]? = some (ad q, .inl (X.2.1 104, G.2.2.1 q, .inr (.inl (M.2 q)))) := by
  rw [ws_at h.1, cellA, h.2]; rfl
theorem ws_arrR {X : XE} {ad : Nat → Nat} {G : GG} {M : MM} {q c : Nat} (h : isK G q c) (h1 : ¬ c < 105) : (wsW X ad G M)[q]? = some (ad q, .inl (X.2.1 c, G.2.2.1 q, .inr (.inr (.inr (.inr (fun j => rfo ad (G.2.2.2 q j))))))) := by
  rw [ws_at h.1, cellA, h.2, cellK, if_neg (by omega), if_neg (by omega), if_neg h1]
theorem ws_arr {X : XE} {ad : Nat → Nat} {G : GG} {M : MM} {q c : Nat} (h : isK G q c) (h1 : ¬ c < 100) : ∃ a : vp_A, a.1 = G.2.2.1 q ∧ (wsW X ad G M)[q]? = some (ad q, .inl (X.2.1 c, a)) := by
  rw [ws_at h.1, cellA, h.2, cellK, if_neg h1]
  by_cases h2 : c < 104
  · rw [if_pos h2]; exact ⟨_, rfl, rfl⟩
  · rw [if_neg h2]
    by_cases h3 : c < 105
    · rw [if_pos h3]; exact ⟨_, rfl, rfl⟩
    · rw [if_neg h3]; exact ⟨_, rfl, rfl⟩
theorem ws_set {X : XE} {ad : Nat → Nat} {G G' : GG} {M M' : MM} {q : Nat} {e : va_E} (hN : G'.1 = G.1) (he : cellA X ad G' M' q = e) (ho : ∀ k, k ≠ q → cellA X ad G' M' k = cellA X ad G M k) : (wsW X ad G M).set q (ad q, e) = wsW X ad G' M' := by
  apply List.ext_getElem?
  intro k
  by_cases hk : k < G.1
  · rw [ws_at (by rw [hN]; exact hk)]
    by_cases hkq : k = q
    · subst hkq
      rw [List.getElem?_set_self (by rw [ws_len]; exact hk), he]
    · rw [List.getElem?_set_ne (Ne.symm hkq), ws_at hk, ho k hkq]
  · rw [List.getElem?_eq_none (by rw [List.length_set, ws_len]; omega), List.getElem?_eq_none (by rw [ws_len, hN]; omega)]
theorem fields_at {ad : Nat → Nat} {c j : Nat} {r : Nat → Value} {f : Nat → Int32} {g : Nat → Int64} (h : j < nf c) : (fields ad c r f g)[j]? = some (fval ad (fk c j) (f j) (g j) (r j)) := by
  simp [fields, h]
theorem fields_len {ad : Nat → Nat} {c : Nat} {r : Nat → Value} {f : Nat → Int32} {g : Nat → Int64} : (fields ad c r f g).length = nf c := by simp [fields]
theorem fields_set {ad : Nat → Nat} {c j : Nat} {r r' : Nat → Value} {f f' : Nat → Int32} {g g' : Nat → Int64} {v : Value} (hv : fval ad (fk c j) (f' j) (g' j) (r' j) = v) (ho : ∀ i, i ≠ j → fval ad (fk c i) (f' i) (g' i) (r' i) = fval ad (fk c i) (f i) (g i) (r i)) : (fields ad c r f g).set j v = fields ad c r' f' g' := by
  apply List.ext_getElem?
  intro i
  by_cases hi : i < nf c
  · rw [fields_at hi]
    by_cases hij : i = j
    · subst hij
      rw [List.getElem?_set_self (by rw [fields_len]; exact hi), hv]
    · rw [List.getElem?_set_ne (Ne.symm hij), fields_at hi, ho i hij]
  · rw [List.getElem?_eq_none (by rw [List.length_set, fields_len]; omega), List.getElem?_eq_none (by rw [fields_len]; omega)]
/-- the array classes by their numbers -/
def tyN (c : Nat) : FieldType := match c with
  | 100 => .int
  | 101 => .byte
  | 102 => .boolean
  | 103 => .short
  | 104 => .long
  | 105 => .object "CoatHoles$Item"
  | 106 => .object "CoatHoles$Silk"
  | 107 => .object "CoatHoles$Cup"
  | 108 => .object "CoatHoles$Nature"
  | 109 => .object "CoatHoles$Row"
  | 110 => .object "CoatHoles$Sheet"
  | 111 => .object "CoatHoles$Shelf"
  | _ => .object "java/lang/String"
def tysT (X : XE) : List (ClassId × FieldType) := (List.range 13).map (fun i => (X.2.1 (100 + i), tyN (100 + i)))
theorem tys_at {X : XE} {c : Nat} (h1 : ¬ c < 100) (h2 : c < 113) : (tysT X)[c - 100]? = some (X.2.1 c, tyN c) := by
  have h : c - 100 < 13 := by omega
  have e : 100 + (c - 100) = c := by omega
  simp [tysT, h, e]
/-- the words of the tables that don't ride in the lists, but go along from state to state -/
def xwB (w : Cond) : Bool := match w with
  | .fieldLinkNest .. => true
  | .methodLinkNest .. => true
  | .castable .. => true
  | .declares .. => true
  | .arrayOver (.object _) => true
  | .publicMethod .. => true
  | .unhidden .. => true
  | _ => false
def xw : List Cond := lw_tbl.filter xwB
theorem xw_g {w : Cond} (h : w ∈ lw_tbl) (g : xwB w = true) : w ∈ xw := List.mem_filter.mpr ⟨h, g⟩
/-! the text constants: places in the Reader's pool, texts, lengths, bytes -/
def sIx (i : Nat) : Nat := match i with
  | 0 => 11 | 1 => 13 | 2 => 15 | 3 => 17 | 4 => 19 | 5 => 21 | 6 => 101 | 7 => 114 | 8 => 120 | 9 => 136 | 10 => 142 | 11 => 146 | 12 => 151 | _ => 156
def sTx (i : Nat) : String := match i with
  | 0 => "silk" | 1 => "wool" | 2 => "cashmere" | 3 => "felt" | 4 => "cotton" | 5 => "fur" | 6 => "in" | 7 => "soil" | 8 => "worth" | 9 => "eggs" | 10 => "fliers" | 11 => "card" | 12 => "lay" | _ => ";"
def sLn : List Nat := [4, 4, 8, 4, 6, 3, 2, 4, 5, 4, 6, 4, 3, 1]
def sBy : List (List Int32) := [[115, 105, 108, 107], [119, 111, 111, 108], [99, 97, 115, 104, 109, 101, 114, 101], [102, 101, 108, 116], [99, 111, 116, 116, 111, 110], [102, 117, 114], [105, 110], [115, 111, 105, 108], [119, 111, 114, 116, 104], [101, 103, 103, 115], [102, 108, 105, 101, 114, 115], [99, 97, 114, 100], [108, 97, 121], [59]]
/-- what stands outside the world and is read: two statics of Throwable, the text constants, two statics that String asks -/
def HS (X : XE) (A : Nat → Prop) (U : State) (H : Heap) : Prop :=
  vx_Zq Bundle.tN "UNASSIGNED_STACK" Bundle.steD A U H ∧ vx_Zq Bundle.tN "SUPPRESSED_SENTINEL" Bundle.listD A U H ∧
  vk_S 14 sLn sBy X.2.2.1 X.2.2.2 A U H ∧ va_Z "java/lang/String" "COMPACT_STRINGS" "Z" (.int 1) A U H ∧
  va_Zq "jdk/internal/util/Preconditions" "SIOOBE_FORMATTER" "Ljava/util/function/BiFunction;" A U H
/-- pairs of classes that the start says not castable -/
def ncP : List (String × String) := [("CoatHoles$Beyond", "CoatHoles$Fault"), ("CoatHoles$Nothing", "CoatHoles$Fault"), ("java/lang/ClassCastException", "CoatHoles$Fault"), ("java/lang/NegativeArraySizeException", "CoatHoles$Fault"), ("CoatHoles$BeatDoing", "CoatHoles$Fault"), ("CoatHoles$ColdDoing", "CoatHoles$Fault"), ("CoatHoles$HeatDoing", "CoatHoles$Fault"), ("CoatHoles$ShakeDoing", "CoatHoles$Fault"), ("CoatHoles$WashDoing", "CoatHoles$Fault"), ("java/lang/ArithmeticException", "CoatHoles$Fault"), ("CoatHoles$Fault", "CoatHoles$Nothing"), ("CoatHoles$Beyond", "CoatHoles$Nothing"), ("java/lang/ClassCastException", "CoatHoles$Nothing"), ("java/lang/NegativeArraySizeException", "CoatHoles$Nothing"), ("CoatHoles$BeatDoing", "CoatHoles$Nothing"), ("CoatHoles$ColdDoing", "CoatHoles$Nothing"), ("CoatHoles$HeatDoing", "CoatHoles$Nothing"), ("CoatHoles$ShakeDoing", "CoatHoles$Nothing"), ("CoatHoles$WashDoing", "CoatHoles$Nothing"), ("java/lang/ArithmeticException", "CoatHoles$Nothing"), ("CoatHoles$Fault", "java/lang/ClassCastException"), ("CoatHoles$Beyond", "java/lang/ClassCastException"), ("CoatHoles$Nothing", "java/lang/ClassCastException"), ("java/lang/NegativeArraySizeException", "java/lang/ClassCastException"), ("CoatHoles$BeatDoing", "java/lang/ClassCastException"), ("CoatHoles$ColdDoing", "java/lang/ClassCastException"), ("CoatHoles$HeatDoing", "java/lang/ClassCastException"), ("CoatHoles$ShakeDoing", "java/lang/ClassCastException"), ("CoatHoles$WashDoing", "java/lang/ClassCastException"), ("java/lang/ArithmeticException", "java/lang/ClassCastException"), ("CoatHoles$Fault", "CoatHoles$Beyond"), ("CoatHoles$Nothing", "CoatHoles$Beyond"), ("java/lang/ClassCastException", "CoatHoles$Beyond"), ("java/lang/NegativeArraySizeException", "CoatHoles$Beyond"), ("CoatHoles$BeatDoing", "CoatHoles$Beyond"), ("CoatHoles$ColdDoing", "CoatHoles$Beyond"), ("CoatHoles$HeatDoing", "CoatHoles$Beyond"), ("CoatHoles$ShakeDoing", "CoatHoles$Beyond"), ("CoatHoles$WashDoing", "CoatHoles$Beyond"), ("java/lang/ArithmeticException", "CoatHoles$Beyond"), ("CoatHoles$Fault", "java/lang/NegativeArraySizeException"), ("CoatHoles$Beyond", "java/lang/NegativeArraySizeException"), ("CoatHoles$Nothing", "java/lang/NegativeArraySizeException"), ("java/lang/ClassCastException", "java/lang/NegativeArraySizeException"), ("CoatHoles$BeatDoing", "java/lang/NegativeArraySizeException"), ("CoatHoles$ColdDoing", "java/lang/NegativeArraySizeException"), ("CoatHoles$HeatDoing", "java/lang/NegativeArraySizeException"), ("CoatHoles$ShakeDoing", "java/lang/NegativeArraySizeException"), ("CoatHoles$WashDoing", "java/lang/NegativeArraySizeException"), ("java/lang/ArithmeticException", "java/lang/NegativeArraySizeException"), ("CoatHoles$Fault", "java/lang/ArithmeticException"), ("CoatHoles$Beyond", "java/lang/ArithmeticException"), ("CoatHoles$Nothing", "java/lang/ArithmeticException"), ("java/lang/ClassCastException", "java/lang/ArithmeticException"), ("java/lang/NegativeArraySizeException", "java/lang/ArithmeticException"), ("CoatHoles$BeatDoing", "java/lang/ArithmeticException"), ("CoatHoles$ColdDoing", "java/lang/ArithmeticException"), ("CoatHoles$HeatDoing", "java/lang/ArithmeticException"), ("CoatHoles$ShakeDoing", "java/lang/ArithmeticException"), ("CoatHoles$WashDoing", "java/lang/ArithmeticException"), ("CoatHoles$Fault", "CoatHoles$Tells"), ("CoatHoles$Beyond", "CoatHoles$Tells"), ("CoatHoles$Nothing", "CoatHoles$Tells"), ("java/lang/ClassCastException", "CoatHoles$Tells"), ("java/lang/NegativeArraySizeException", "CoatHoles$Tells"), ("java/lang/ArithmeticException", "CoatHoles$Tells"), ("CoatHoles$Fault", "CoatHoles$AnyDoing"), ("CoatHoles$Beyond", "CoatHoles$AnyDoing"), ("CoatHoles$Nothing", "CoatHoles$AnyDoing"), ("java/lang/ClassCastException", "CoatHoles$AnyDoing"), ("java/lang/NegativeArraySizeException", "CoatHoles$AnyDoing"), ("java/lang/ArithmeticException", "CoatHoles$AnyDoing"), ("CoatHoles$Fault", "CoatHoles$ColdDoing"), ("CoatHoles$Beyond", "CoatHoles$ColdDoing"), ("CoatHoles$Nothing", "CoatHoles$ColdDoing"), ("java/lang/ClassCastException", "CoatHoles$ColdDoing"), ("java/lang/NegativeArraySizeException", "CoatHoles$ColdDoing"), ("CoatHoles$BeatDoing", "CoatHoles$ColdDoing"), ("CoatHoles$ShakeDoing", "CoatHoles$ColdDoing"), ("CoatHoles$WashDoing", "CoatHoles$ColdDoing"), ("java/lang/ArithmeticException", "CoatHoles$ColdDoing"), ("CoatHoles$Fault", "CoatHoles$ShakeDoing"), ("CoatHoles$Beyond", "CoatHoles$ShakeDoing"), ("CoatHoles$Nothing", "CoatHoles$ShakeDoing"), ("java/lang/ClassCastException", "CoatHoles$ShakeDoing"), ("java/lang/NegativeArraySizeException", "CoatHoles$ShakeDoing"), ("CoatHoles$ColdDoing", "CoatHoles$ShakeDoing"), ("CoatHoles$HeatDoing", "CoatHoles$ShakeDoing"), ("java/lang/ArithmeticException", "CoatHoles$ShakeDoing"), ("CoatHoles$Fault", "CoatHoles$WashDoing"), ("CoatHoles$Beyond", "CoatHoles$WashDoing"), ("CoatHoles$Nothing", "CoatHoles$WashDoing"), ("java/lang/ClassCastException", "CoatHoles$WashDoing"), ("java/lang/NegativeArraySizeException", "CoatHoles$WashDoing"), ("CoatHoles$BeatDoing", "CoatHoles$WashDoing"), ("CoatHoles$ColdDoing", "CoatHoles$WashDoing"), ("CoatHoles$HeatDoing", "CoatHoles$WashDoing"), ("CoatHoles$ShakeDoing", "CoatHoles$WashDoing"), ("java/lang/ArithmeticException", "CoatHoles$WashDoing"), ("CoatHoles$Fault", "CoatHoles$HeatDoing"), ("CoatHoles$Beyond", "CoatHoles$HeatDoing"), ("CoatHoles$Nothing", "CoatHoles$HeatDoing"), ("java/lang/ClassCastException", "CoatHoles$HeatDoing"), ("java/lang/NegativeArraySizeException", "CoatHoles$HeatDoing"), ("CoatHoles$BeatDoing", "CoatHoles$HeatDoing"), ("CoatHoles$ColdDoing", "CoatHoles$HeatDoing"), ("CoatHoles$ShakeDoing", "CoatHoles$HeatDoing"), ("CoatHoles$WashDoing", "CoatHoles$HeatDoing"), ("java/lang/ArithmeticException", "CoatHoles$HeatDoing"), ("CoatHoles$Fault", "CoatHoles$BeatDoing"), ("CoatHoles$Beyond", "CoatHoles$BeatDoing"), ("CoatHoles$Nothing", "CoatHoles$BeatDoing"), ("java/lang/ClassCastException", "CoatHoles$BeatDoing"), ("java/lang/NegativeArraySizeException", "CoatHoles$BeatDoing"), ("CoatHoles$ColdDoing", "CoatHoles$BeatDoing"), ("CoatHoles$HeatDoing", "CoatHoles$BeatDoing"), ("CoatHoles$ShakeDoing", "CoatHoles$BeatDoing"), ("CoatHoles$WashDoing", "CoatHoles$BeatDoing"), ("java/lang/ArithmeticException", "CoatHoles$BeatDoing"), ("CoatHoles$Fault", "[I"), ("CoatHoles$Beyond", "[I"), ("CoatHoles$Nothing", "[I"), ("java/lang/ClassCastException", "[I"), ("java/lang/NegativeArraySizeException", "[I"), ("CoatHoles$BeatDoing", "[I"), ("CoatHoles$ColdDoing", "[I"), ("CoatHoles$HeatDoing", "[I"), ("CoatHoles$ShakeDoing", "[I"), ("CoatHoles$WashDoing", "[I"), ("java/lang/ArithmeticException", "[I"), ("[B", "[I"), ("[S", "[I"), ("[J", "[I"), ("CoatHoles$Fault", "[B"), ("CoatHoles$Beyond", "[B"), ("CoatHoles$Nothing", "[B"), ("java/lang/ClassCastException", "[B"), ("java/lang/NegativeArraySizeException", "[B"), ("CoatHoles$BeatDoing", "[B"), ("CoatHoles$ColdDoing", "[B"), ("CoatHoles$HeatDoing", "[B"), ("CoatHoles$ShakeDoing", "[B"), ("CoatHoles$WashDoing", "[B"), ("java/lang/ArithmeticException", "[B"), ("[I", "[B"), ("[S", "[B"), ("[J", "[B"), ("CoatHoles$Fault", "[S"), ("CoatHoles$Beyond", "[S"), ("CoatHoles$Nothing", "[S"), ("java/lang/ClassCastException", "[S"), ("java/lang/NegativeArraySizeException", "[S"), ("CoatHoles$BeatDoing", "[S"), ("CoatHoles$ColdDoing", "[S"), ("CoatHoles$HeatDoing", "[S"), ("CoatHoles$ShakeDoing", "[S"), ("CoatHoles$WashDoing", "[S"), ("java/lang/ArithmeticException", "[S"), ("[I", "[S"), ("[B", "[S"), ("[J", "[S"), ("CoatHoles$Fault", "[J"), ("CoatHoles$Beyond", "[J"), ("CoatHoles$Nothing", "[J"), ("java/lang/ClassCastException", "[J"), ("java/lang/NegativeArraySizeException", "[J"), ("CoatHoles$BeatDoing", "[J"), ("CoatHoles$ColdDoing", "[J"), ("CoatHoles$HeatDoing", "[J"), ("CoatHoles$ShakeDoing", "[J"), ("CoatHoles$WashDoing", "[J"), ("java/lang/ArithmeticException", "[J"), ("[I", "[J"), ("[B", "[J"), ("[S", "[J"), ("[I", "CoatHoles$AnyDoing"), ("[B", "CoatHoles$AnyDoing"), ("[S", "CoatHoles$AnyDoing"), ("[J", "CoatHoles$AnyDoing"), ("[I", "CoatHoles$ColdDoing"), ("[B", "CoatHoles$ColdDoing"), ("[S", "CoatHoles$ColdDoing"), ("[J", "CoatHoles$ColdDoing"), ("[I", "CoatHoles$ShakeDoing"), ("[B", "CoatHoles$ShakeDoing"), ("[S", "CoatHoles$ShakeDoing"), ("[J", "CoatHoles$ShakeDoing"), ("[I", "CoatHoles$WashDoing"), ("[B", "CoatHoles$WashDoing"), ("[S", "CoatHoles$WashDoing"), ("[J", "CoatHoles$WashDoing"), ("[I", "CoatHoles$HeatDoing"), ("[B", "CoatHoles$HeatDoing"), ("[S", "CoatHoles$HeatDoing"), ("[J", "CoatHoles$HeatDoing"), ("[I", "CoatHoles$BeatDoing"), ("[B", "CoatHoles$BeatDoing"), ("[S", "CoatHoles$BeatDoing"), ("[J", "CoatHoles$BeatDoing"), ("[I", "CoatHoles$Tells"), ("[B", "CoatHoles$Tells"), ("[S", "CoatHoles$Tells"), ("[J", "CoatHoles$Tells")]
/-- the words of the interfaces, which go along -/
def ifW : List Cond := [
  .interfaceMethod "CoatHoles$EatsAct" "CoatHoles$EatsAct" "eats" "(I)I",
  .interfaceMethod "CoatHoles$Tells" "CoatHoles$Tells" "tells" "(I)I",
  .interfaceMethod "CoatHoles$Tells" "CoatHoles$EatsAct" "eats" "(I)I",
  .interfaceMethod "CoatHoles$Tells" "CoatHoles$EatsAct" "lays" "(I)I",
  .interfaceMethod "CoatHoles$Tells" "CoatHoles$SharesAct" "shares" "(I)I",
  .landsInDefault "CoatHoles$Tells" ({ cls := "CoatHoles$Tells", name := "lays", desc := "(I)I" } : Jvm.MethodName) ({ cls := "CoatHoles$EatsAct", name := "lays", desc := "(I)I" } : Jvm.MethodName),
  .methodLink "CoatHoles" 429 ({ cls := "CoatHoles$Tells", name := "eats", desc := "(I)I" } : Jvm.MethodName),
  .methodLink "CoatHoles" 434 ({ cls := "CoatHoles$Tells", name := "lays", desc := "(I)I" } : Jvm.MethodName),
  .methodLink "CoatHoles$AnyDoing" 26 ({ cls := "CoatHoles$Tells", name := "lays", desc := "(I)I" } : Jvm.MethodName),
  .methodLink "CoatHoles" 437 ({ cls := "CoatHoles$Tells", name := "shares", desc := "(I)I" } : Jvm.MethodName)]
theorem ifW_warm {w : Cond} (hw : w ∈ ifW) {s U : State} (hW : s.WarmedH U.vm) (h : va_Nw w s) : va_Nw w U := by
  have hal := hW.alike
  have tr : ∀ {c : Cond}, c.onTables = true → c.before #[] (s.setVm U.vm) = true → c.before #[] U = true := fun hc h => va_tabs hc (rfl : (s.setVm U.vm).vm = U.vm) h
  have im : ∀ {a b c d : String}, va_Nw (.interfaceMethod a b c d) s → va_Nw (.interfaceMethod a b c d) U := by
    intro a b c d h
    refine tr rfl ?_
    have e : (Cond.interfaceMethod a b c d).before #[] (s.setVm U.vm) = (Cond.interfaceMethod a b c d).before #[] s := by
      simp only [Cond.before, Cond.holds, Cond.value, State.vm_setVm, hal.findClass, State.methodFound?_setVm hal, State.methodNamed?_setVm hal, arm_isInterface_setVm hal]
    rw [e]; exact h
  have ml : ∀ {a : String} {i : Nat} {y : MethodName}, va_Nw (.methodLink a i y) s → va_Nw (.methodLink a i y) U := fun h => word_at hW (Or.inl rfl) h
  simp only [ifW, List.mem_cons, List.not_mem_nil, or_false] at hw
  rcases hw with rfl | rfl | rfl | rfl | rfl | rfl | rfl | rfl | rfl | rfl
  · exact im h
  · exact im h
  · exact im h
  · exact im h
  · exact im h
  · have h1 : (Cond.landsInDefault "CoatHoles$Tells" ({ cls := "CoatHoles$Tells", name := "lays", desc := "(I)I" } : Jvm.MethodName) ({ cls := "CoatHoles$EatsAct", name := "lays", desc := "(I)I" } : Jvm.MethodName)).before #[] (s.setVm U.vm) = true := (Cond.landsInDefault_setVm hal (State.methodFound?_setVm hal _ _ _)).trans h
    exact h1
  · exact ml h
  · exact ml h
  · exact ml h
  · exact ml h
theorem ifW_same {w : Cond} (hw : w ∈ ifW) {s U : State} (hv : s.vm = U.vm) (h : va_Nw w s) : va_Nw w U := by
  simp only [ifW, List.mem_cons, List.not_mem_nil, or_false] at hw
  rcases hw with rfl | rfl | rfl | rfl | rfl | rfl | rfl | rfl | rfl | rfl
  case inr.inr.inr.inr.inr.inl =>
    have h1 : (Cond.landsInDefault "CoatHoles$Tells" ({ cls := "CoatHoles$Tells", name := "lays", desc := "(I)I" } : Jvm.MethodName) ({ cls := "CoatHoles$EatsAct", name := "lays", desc := "(I)I" } : Jvm.MethodName)).before #[] (s.setVm U.vm) = true := by
      rw [← hv]; exact h
    exact h1
  all_goals exact va_Nw.same rfl hv h
def BX (X : XE) (A : Nat → Prop) (U : State) (H : Heap) : Prop :=
  va_K X.1 clT (tysT X) U ∧ (∀ w ∈ xw, va_Nw w U) ∧ HS X A U H ∧ (∀ i, i < 14 → vk_R "CoatHoles$Reader" (sIx i) (sTx i) (X.2.2.1 i) U) ∧ (∀ q ∈ ncP, va_Nc q.1 q.2 U) ∧ (∀ w ∈ ifW, va_Nw w U)
theorem xw_warm {w : Cond} (hw : xwB w = true) {s U : State} (hW : s.WarmedH U.vm) (h : va_Nw w s) : va_Nw w U := by
  have tr : ∀ {c : Cond}, c.onTables = true → c.before #[] (s.setVm U.vm) = true → c.before #[] U = true := fun hc h => va_tabs hc (rfl : (s.setVm U.vm).vm = U.vm) h
  cases w <;> try (simp [xwB] at hw; done)
  case fieldLinkNest => exact va_Nw.warmF hW h
  case methodLinkNest => exact va_Nw.warmM hW h
  case castable => exact va_Nw.warmC hW h
  case declares => exact va_Nw.warmD hW h
  case publicMethod => exact tr rfl (by rw [Cond.publicMethod_setVm hW.alike]; exact h)
  case unhidden => exact tr rfl (by rw [Cond.unhidden_setVm hW.alike]; exact h)
  case arrayOver t =>
    cases t <;> try (simp [xwB] at hw; done)
    case object C => exact va_AO.moved hW.alike h
theorem xw_same {w : Cond} (hw : xwB w = true) {s U : State} (hv : s.vm = U.vm) (h : va_Nw w s) : va_Nw w U := by
  cases w <;> first | exact va_Nw.same rfl hv h | (simp [xwB] at hw; done) | skip
  case arrayOver t =>
    cases t <;> try (simp [xwB] at hw; done)
    case object C => exact va_AO.moved (by rw [hv]; exact Vm.Alike.refl U.vm) h
theorem BX.warm {X : XE} {A A' : Nat → Prop} {s U : State} {H : Heap} {lo : List Loc} (h : BX X A s s.heap) (hS : va_S A s.heap H lo) (hW : s.WarmedH U.vm) (hA : ∀ q, A' q → A q) : BX X A' U H := by
  obtain ⟨h1, h2, ⟨h3, h4, h5, h6, h7⟩, h8, h9, h10⟩ := h
  refine ⟨va_K.moved hW.alike h1, fun w hw => xw_warm (List.mem_filter.mp hw).2 hW (h2 w hw), ⟨?_, ?_, ?_, ?_, ?_⟩, fun i hi => (h8 i hi).warm hW, fun q hq => (h9 q hq).moved hW.alike, fun w hw => ifW_warm hw hW (h10 w hw)⟩
  · exact ((h3.kept hS.2.1).moved hW.alike).narrow hA
  · exact ((h4.kept hS.2.1).moved hW.alike).narrow hA
  · exact ((h5.kept hS.2.1).moved hW.alike).narrow hA
  · exact ((h6.kept hS.2.1).moved hW.alike).narrow hA
  · exact ((h7.kept hS.2.1).moved hW.alike).narrow hA
theorem BX.same {X : XE} {A : Nat → Prop} {s U : State} {H : Heap} (h : BX X A s H) (hv : s.vm = U.vm) : BX X A U H := by
  have hal : s.vm.Alike U.vm := by rw [hv]; exact Vm.Alike.refl U.vm
  obtain ⟨h1, h2, ⟨h3, h4, h5, h6, h7⟩, h8, h9, h10⟩ := h
  exact ⟨va_K.moved hal h1, fun w hw => xw_same (List.mem_filter.mp hw).2 hv (h2 w hw), ⟨h3.moved hal, h4.moved hal, h5.moved hal, h6.moved hal, h7.moved hal⟩, fun i hi => (h8 i hi).same hv.symm, fun q hq => (h9 q hq).moved hal, fun w hw => ifW_same hw hv (h10 w hw)⟩
/-! the frame of a method's walk: program, launch, environment, room, start, method, arguments, below, method, code; classes; what may be written; the start's addresses and cells; the end -/
abbrev EN : Type := Program × Launch × Env × Room × State × MethodId × Array Value × List Frame × Method × Code × XE × (Nat → Prop) × (Nat → Nat) × GG × (State → Prop)
abbrev EN.p (E : EN) : Program := E.1
abbrev EN.l (E : EN) : Launch := E.2.1
abbrev EN.e (E : EN) : Env := E.2.2.1
abbrev EN.R (E : EN) : Room := E.2.2.2.1
abbrev EN.s (E : EN) : State := E.2.2.2.2.1
abbrev EN.m (E : EN) : MethodId := E.2.2.2.2.2.1
abbrev EN.args (E : EN) : Array Value := E.2.2.2.2.2.2.1
abbrev EN.below (E : EN) : List Frame := E.2.2.2.2.2.2.2.1
abbrev EN.meth (E : EN) : Method := E.2.2.2.2.2.2.2.2.1
abbrev EN.c (E : EN) : Code := E.2.2.2.2.2.2.2.2.2.1
abbrev EN.X (E : EN) : XE := E.2.2.2.2.2.2.2.2.2.2.1
abbrev EN.A (E : EN) : Nat → Prop := E.2.2.2.2.2.2.2.2.2.2.2.1
abbrev EN.ad0 (E : EN) : Nat → Nat := E.2.2.2.2.2.2.2.2.2.2.2.2.1
abbrev EN.G0 (E : EN) : GG := E.2.2.2.2.2.2.2.2.2.2.2.2.2.1
abbrev EN.Q (E : EN) : State → Prop := E.2.2.2.2.2.2.2.2.2.2.2.2.2.2
/-- the heap has grown: what was there has its address, sort and length -/
def GX (G0 : GG) (ad0 : Nat → Nat) (G : GG) (ad : Nat → Nat) : Prop := G0.1 ≤ G.1 ∧ ∀ k, k < G0.1 → ad k = ad0 k ∧ G.2.1 k = G0.2.1 k ∧ G.2.2.1 k = G0.2.2.1 k
def cl_ (ad : Nat → Nat) (q : Nat × Value) : Nat × Value := (q.1, cv ad q.2)
def CX (E : EN) (cc : ByteArray) (nL : Nat) (own : String) (rm : Room) : Prop :=
  E.p.tables.exec = Jvm.exec ∧ E.c.code = cc ∧ E.c.maxLocals = nL ∧ E.s.vm.findClass own = some E.m.cls ∧ (∀ w ∈ lw_all, w.before E.args E.s = true) ∧ E.R = rm ∧ BX E.X E.A E.s E.s.heap ∧ (∀ q, E.s.heap.size ≤ q → E.A q) ∧ E.meth.locks = false ∧ E.l.stackTraces = false
def WX (E : EN) (nL : Nat) (G : GG) (M : MM) (kc ks : Nat) (lv : List (Nat × Value)) (st : List Value) (pc : Nat) : Prop :=
  ∀ (ad : Nat → Nat) (H : Heap) (lo : List Loc) (ls : Array Slot), World E.X E.A ad G M H → GX E.G0 E.ad0 G ad → va_S E.A E.s.heap H lo → lv_has ls nL (lv.map (cl_ ad)) →
    W E.p E.l E.e E.R E.s E.m E.args E.below E.meth E.c H lo kc ks E.Q (F0 E.m pc ls (st.map (cv ad)))
theorem CX.x {E cc nL own rm} (h : CX E cc nL own rm) : E.p.tables.exec = Jvm.exec := h.1
theorem CX.b {E cc nL own rm} (h : CX E cc nL own rm) : E.c.code = cc := h.2.1
theorem CX.ml {E cc nL own rm} (h : CX E cc nL own rm) : E.c.maxLocals = nL := h.2.2.1
theorem CX.own {E cc nL own rm} (h : CX E cc nL own rm) : E.s.vm.findClass own = some E.m.cls := h.2.2.2.1
theorem CX.ts {E cc nL own rm} (h : CX E cc nL own rm) : ∀ w ∈ lw_all, w.before E.args E.s = true := h.2.2.2.2.1
theorem CX.R {E cc nL own rm} (h : CX E cc nL own rm) : E.R = rm := h.2.2.2.2.2.1
theorem CX.B {E cc nL own rm} (h : CX E cc nL own rm) : BX E.X E.A E.s E.s.heap := h.2.2.2.2.2.2.1
theorem CX.K {E cc nL own rm} (h : CX E cc nL own rm) : va_K E.X.1 clT (tysT E.X) E.s := h.B.1
theorem CX.A {E cc nL own rm} (h : CX E cc nL own rm) : ∀ q, E.s.heap.size ≤ q → E.A q := h.2.2.2.2.2.2.2.1
theorem CX.lk {E cc nL own rm} (h : CX E cc nL own rm) : E.meth.locks = false := h.2.2.2.2.2.2.2.2.1
theorem CX.fl {E cc nL own rm} (h : CX E cc nL own rm) : E.l.stackTraces = false := h.2.2.2.2.2.2.2.2.2
theorem CX.w {E cc nL own rm} (h : CX E cc nL own rm) {w : Cond} (hw : w ∈ xw) : va_Nw w E.s := h.B.2.1 w hw
theorem lvm {ad : Nat → Nat} {lv : List (Nat × Value)} {p i : Nat} {v : Value} (h : lv[p]? = some (i, v)) : (lv.map (cl_ ad))[p]? = some (i, cv ad v) := by rw [List.getElem?_map, h]; rfl
def stl1 (lv : List (Nat × Value)) (i : Nat) (v : Value) : List (Nat × Value) := (i, v) :: lv.filter (fun q => !(q.1 == i) && !(q.1 + 1 == i && q.2.category == 2))
def stl2 (lv : List (Nat × Value)) (i : Nat) (v : Value) : List (Nat × Value) := (i, v) :: lv.filter (fun q => !(q.1 == i) && (!(q.1 == i + 1) && !(q.1 + 1 == i && q.2.category == 2)))
theorem stl1_map (ad : Nat → Nat) (lv : List (Nat × Value)) (i : Nat) (v : Value) : (i, cv ad v) :: (lv.map (cl_ ad)).filter (fun q => !(q.1 == i) && !(q.1 + 1 == i && q.2.category == 2)) = (stl1 lv i v).map (cl_ ad) := by
  rw [stl1, List.map_cons, List.filter_map]
  have e : ((fun q : Nat × Value => !(q.1 == i) && !(q.1 + 1 == i && q.2.category == 2)) ∘ cl_ ad) = (fun q : Nat × Value => !(q.1 == i) && !(q.1 + 1 == i && q.2.category == 2)) := by
    funext q; simp [cl_, cv_cat]
  rw [e]; rfl
theorem stl2_map (ad : Nat → Nat) (lv : List (Nat × Value)) (i : Nat) (v : Value) : (i, cv ad v) :: (lv.map (cl_ ad)).filter (fun q => !(q.1 == i) && (!(q.1 == i + 1) && !(q.1 + 1 == i && q.2.category == 2))) = (stl2 lv i v).map (cl_ ad) := by
  rw [stl2, List.map_cons, List.filter_map]
  have e : ((fun q : Nat × Value => !(q.1 == i) && (!(q.1 == i + 1) && !(q.1 + 1 == i && q.2.category == 2))) ∘ cl_ ad) = (fun q : Nat × Value => !(q.1 == i) && (!(q.1 == i + 1) && !(q.1 + 1 == i && q.2.category == 2))) := by
    funext q; simp [cl_, cv_cat]
  rw [e]; rfl
theorem x_iconst {E : EN} {cc : ByteArray} {nL : Nat} {own : String} {rm : Room} {G : GG} {M : MM} {kc ks : Nat} {lv : List (Nat × Value)} {st : List Value} {pc : Nat} {n : Int} {v : Int32} (h : CX E cc nL own rm) (d : decode cc pc = .ok (.iconst n, 1)) (hv : Int32.ofInt n = v) (k : WX E nL G M kc ks lv (.int v :: st) (pc + 1)) : WX E nL G M kc ks lv (st) (pc) := fun ad H lo ls h1 h2 h3 h4 => lv_iconst h.x h.b d hv (k ad H lo ls h1 h2 h3 h4)
theorem x_bipush {E : EN} {cc : ByteArray} {nL : Nat} {own : String} {rm : Room} {G : GG} {M : MM} {kc ks : Nat} {lv : List (Nat × Value)} {st : List Value} {pc : Nat} {n : Int} {v : Int32} (h : CX E cc nL own rm) (d : decode cc pc = .ok (.bipush n, 2)) (hv : (Int8.ofInt n).toInt32 = v) (k : WX E nL G M kc ks lv (.int v :: st) (pc + 2)) : WX E nL G M kc ks lv (st) (pc) := fun ad H lo ls h1 h2 h3 h4 => lv_bipush h.x h.b d hv (k ad H lo ls h1 h2 h3 h4)
theorem x_sipush {E : EN} {cc : ByteArray} {nL : Nat} {own : String} {rm : Room} {G : GG} {M : MM} {kc ks : Nat} {lv : List (Nat × Value)} {st : List Value} {pc : Nat} {n : Int} {v : Int32} (h : CX E cc nL own rm) (d : decode cc pc = .ok (.sipush n, 3)) (hv : (Int16.ofInt n).toInt32 = v) (k : WX E nL G M kc ks lv (.int v :: st) (pc + 3)) : WX E nL G M kc ks lv (st) (pc) := fun ad H lo ls h1 h2 h3 h4 => lv_sipush h.x h.b d hv (k ad H lo ls h1 h2 h3 h4)
theorem x_lconst {E : EN} {cc : ByteArray} {nL : Nat} {own : String} {rm : Room} {G : GG} {M : MM} {kc ks : Nat} {lv : List (Nat × Value)} {st : List Value} {pc : Nat} {n : Fin 2} {v : Int64} (h : CX E cc nL own rm) (d : decode cc pc = .ok (.lconst n, 1)) (hv : Int64.ofNat (n : Nat) = v) (k : WX E nL G M kc ks lv (.long v :: st) (pc + 1)) : WX E nL G M kc ks lv (st) (pc) := fun ad H lo ls h1 h2 h3 h4 => lv_lconst h.x h.b d hv (k ad H lo ls h1 h2 h3 h4)
theorem x_null {E : EN} {cc : ByteArray} {nL : Nat} {own : String} {rm : Room} {G : GG} {M : MM} {kc ks : Nat} {lv : List (Nat × Value)} {st : List Value} {pc : Nat}  (h : CX E cc nL own rm) (d : decode cc pc = .ok (.aconst_null, 1)) (k : WX E nL G M kc ks lv (.null :: st) (pc + 1)) : WX E nL G M kc ks lv (st) (pc) := fun ad H lo ls h1 h2 h3 h4 => lv_null h.x h.b d (k ad H lo ls h1 h2 h3 h4)
theorem x_iload_n {E : EN} {cc : ByteArray} {nL : Nat} {own : String} {rm : Room} {G : GG} {M : MM} {kc ks : Nat} {lv : List (Nat × Value)} {st : List Value} {pc : Nat} {i : Fin 4} {x : Int32} (h : CX E cc nL own rm) (d : decode cc pc = .ok (.iload_n i, 1)) (q : Nat) (hq : lv[q]? = some ((i : Nat), .int x)) (k : WX E nL G M kc ks lv (.int x :: st) (pc + 1)) : WX E nL G M kc ks lv (st) (pc) := fun ad H lo ls h1 h2 h3 h4 => lv_iload_n h.x h.b d rfl (lv_at h4 q (lvm hq)) (k ad H lo ls h1 h2 h3 h4)
theorem x_iload {E : EN} {cc : ByteArray} {nL : Nat} {own : String} {rm : Room} {G : GG} {M : MM} {kc ks : Nat} {lv : List (Nat × Value)} {st : List Value} {pc : Nat} {i : Nat} {x : Int32} (h : CX E cc nL own rm) (d : decode cc pc = .ok (.iload i, 2)) (q : Nat) (hq : lv[q]? = some (i, .int x)) (k : WX E nL G M kc ks lv (.int x :: st) (pc + 2)) : WX E nL G M kc ks lv (st) (pc) := fun ad H lo ls h1 h2 h3 h4 => lv_iload h.x h.b d (lv_at h4 q (lvm hq)) (k ad H lo ls h1 h2 h3 h4)
theorem x_lload_n {E : EN} {cc : ByteArray} {nL : Nat} {own : String} {rm : Room} {G : GG} {M : MM} {kc ks : Nat} {lv : List (Nat × Value)} {st : List Value} {pc : Nat} {i : Fin 4} {x : Int64} (h : CX E cc nL own rm) (d : decode cc pc = .ok (.lload_n i, 1)) (q : Nat) (hq : lv[q]? = some ((i : Nat), .long x)) (k : WX E nL G M kc ks lv (.long x :: st) (pc + 1)) : WX E nL G M kc ks lv (st) (pc) := fun ad H lo ls h1 h2 h3 h4 => lv_lload_n h.x h.b d rfl (lv_at h4 q (lvm hq)) (k ad H lo ls h1 h2 h3 h4)
theorem x_lload {E : EN} {cc : ByteArray} {nL : Nat} {own : String} {rm : Room} {G : GG} {M : MM} {kc ks : Nat} {lv : List (Nat × Value)} {st : List Value} {pc : Nat} {i : Nat} {x : Int64} (h : CX E cc nL own rm) (d : decode cc pc = .ok (.lload i, 2)) (q : Nat) (hq : lv[q]? = some (i, .long x)) (k : WX E nL G M kc ks lv (.long x :: st) (pc + 2)) : WX E nL G M kc ks lv (st) (pc) := fun ad H lo ls h1 h2 h3 h4 => lv_lload h.x h.b d (lv_at h4 q (lvm hq)) (k ad H lo ls h1 h2 h3 h4)
theorem x_aload_n {E : EN} {cc : ByteArray} {nL : Nat} {own : String} {rm : Room} {G : GG} {M : MM} {kc ks : Nat} {lv : List (Nat × Value)} {st : List Value} {pc : Nat} {i : Fin 4} {v : Value} (h : CX E cc nL own rm) (d : decode cc pc = .ok (.aload_n i, 1)) (hv : rfk v) (q : Nat) (hq : lv[q]? = some ((i : Nat), v)) (k : WX E nL G M kc ks lv (v :: st) (pc + 1)) : WX E nL G M kc ks lv (st) (pc) := by
  intro ad H lo ls h1 h2 h3 h4
  have hl := lv_at h4 q (lvm hq)
  have kk := (k ad H lo ls h1 h2 h3 h4)
  cases v <;> first | exact False.elim hv | exact lv_aload_nN h.x h.b d rfl hl kk | exact lv_aload_n h.x h.b d rfl hl kk
theorem x_aload {E : EN} {cc : ByteArray} {nL : Nat} {own : String} {rm : Room} {G : GG} {M : MM} {kc ks : Nat} {lv : List (Nat × Value)} {st : List Value} {pc : Nat} {i : Nat} {v : Value} (h : CX E cc nL own rm) (d : decode cc pc = .ok (.aload i, 2)) (hv : rfk v) (q : Nat) (hq : lv[q]? = some (i, v)) (k : WX E nL G M kc ks lv (v :: st) (pc + 2)) : WX E nL G M kc ks lv (st) (pc) := by
  intro ad H lo ls h1 h2 h3 h4
  have hl := lv_at h4 q (lvm hq)
  have kk := (k ad H lo ls h1 h2 h3 h4)
  cases v <;> first | exact False.elim hv | exact lv_aloadN h.x h.b d hl kk | exact lv_aload h.x h.b d hl kk
theorem x_istore_n {E : EN} {cc : ByteArray} {nL : Nat} {own : String} {rm : Room} {G : GG} {M : MM} {kc ks : Nat} {lv : List (Nat × Value)} {st : List Value} {pc : Nat} {i : Fin 4} {x : Int32} {lv' : List (Nat × Value)} (h : CX E cc nL own rm) (d : decode cc pc = .ok (.istore_n i, 1)) (hn : (i : Nat) < nL) (hl : stl1 lv (i : Nat) (.int x) = lv') (k : WX E nL G M kc ks lv' (st) (pc + 1)) : WX E nL G M kc ks lv (.int x :: st) (pc) := by
  subst hl
  exact fun ad H lo ls h1 h2 h3 h4 => lv_istore_n h.x h.b d rfl h4 hn (stl1_map ad lv (i : Nat) (.int x)) (fun ls h4 => (k ad H lo ls h1 h2 h3 h4))
theorem x_istore {E : EN} {cc : ByteArray} {nL : Nat} {own : String} {rm : Room} {G : GG} {M : MM} {kc ks : Nat} {lv : List (Nat × Value)} {st : List Value} {pc : Nat} {i : Nat} {x : Int32} {lv' : List (Nat × Value)} (h : CX E cc nL own rm) (d : decode cc pc = .ok (.istore i, 2)) (hn : i < nL) (hl : stl1 lv i (.int x) = lv') (k : WX E nL G M kc ks lv' (st) (pc + 2)) : WX E nL G M kc ks lv (.int x :: st) (pc) := by
  subst hl
  exact fun ad H lo ls h1 h2 h3 h4 => lv_istore h.x h.b d h4 hn (stl1_map ad lv i (.int x)) (fun ls h4 => (k ad H lo ls h1 h2 h3 h4))
theorem x_lstore_n {E : EN} {cc : ByteArray} {nL : Nat} {own : String} {rm : Room} {G : GG} {M : MM} {kc ks : Nat} {lv : List (Nat × Value)} {st : List Value} {pc : Nat} {i : Fin 4} {x : Int64} {lv' : List (Nat × Value)} (h : CX E cc nL own rm) (d : decode cc pc = .ok (.lstore_n i, 1)) (hn : (i : Nat) + 1 < nL) (hl : stl2 lv (i : Nat) (.long x) = lv') (k : WX E nL G M kc ks lv' (st) (pc + 1)) : WX E nL G M kc ks lv (.long x :: st) (pc) := by
  subst hl
  exact fun ad H lo ls h1 h2 h3 h4 => lv_lstore_n h.x h.b d rfl h4 hn (stl2_map ad lv (i : Nat) (.long x)) (fun ls h4 => (k ad H lo ls h1 h2 h3 h4))
theorem x_lstore {E : EN} {cc : ByteArray} {nL : Nat} {own : String} {rm : Room} {G : GG} {M : MM} {kc ks : Nat} {lv : List (Nat × Value)} {st : List Value} {pc : Nat} {i : Nat} {x : Int64} {lv' : List (Nat × Value)} (h : CX E cc nL own rm) (d : decode cc pc = .ok (.lstore i, 2)) (hn : i + 1 < nL) (hl : stl2 lv i (.long x) = lv') (k : WX E nL G M kc ks lv' (st) (pc + 2)) : WX E nL G M kc ks lv (.long x :: st) (pc) := by
  subst hl
  exact fun ad H lo ls h1 h2 h3 h4 => lv_lstore h.x h.b d h4 hn (stl2_map ad lv i (.long x)) (fun ls h4 => (k ad H lo ls h1 h2 h3 h4))
theorem x_astore_n {E : EN} {cc : ByteArray} {nL : Nat} {own : String} {rm : Room} {G : GG} {M : MM} {kc ks : Nat} {lv : List (Nat × Value)} {st : List Value} {pc : Nat} {i : Fin 4} {v : Value} {lv' : List (Nat × Value)} (h : CX E cc nL own rm) (d : decode cc pc = .ok (.astore_n i, 1)) (hv : rfk v) (hn : (i : Nat) < nL) (hl : stl1 lv (i : Nat) v = lv') (k : WX E nL G M kc ks lv' (st) (pc + 1)) : WX E nL G M kc ks lv (v :: st) (pc) := by
  subst hl
  intro ad H lo ls h1 h2 h3 h4
  have e := stl1_map ad lv (i : Nat) v
  cases v <;> first | exact False.elim hv | exact lv_astore_nN h.x h.b d rfl h4 hn e (fun ls h4 => (k ad H lo ls h1 h2 h3 h4)) | exact lv_astore_n h.x h.b d rfl h4 hn e (fun ls h4 => (k ad H lo ls h1 h2 h3 h4))
theorem x_astore {E : EN} {cc : ByteArray} {nL : Nat} {own : String} {rm : Room} {G : GG} {M : MM} {kc ks : Nat} {lv : List (Nat × Value)} {st : List Value} {pc : Nat} {i : Nat} {v : Value} {lv' : List (Nat × Value)} (h : CX E cc nL own rm) (d : decode cc pc = .ok (.astore i, 2)) (hv : rfk v) (hn : i < nL) (hl : stl1 lv i v = lv') (k : WX E nL G M kc ks lv' (st) (pc + 2)) : WX E nL G M kc ks lv (v :: st) (pc) := by
  subst hl
  intro ad H lo ls h1 h2 h3 h4
  have e := stl1_map ad lv i v
  cases v <;> first | exact False.elim hv | exact lv_astoreN h.x h.b d h4 hn e (fun ls h4 => (k ad H lo ls h1 h2 h3 h4)) | exact lv_astore h.x h.b d h4 hn e (fun ls h4 => (k ad H lo ls h1 h2 h3 h4))
theorem x_iinc {E : EN} {cc : ByteArray} {nL : Nat} {own : String} {rm : Room} {G : GG} {M : MM} {kc ks : Nat} {lv : List (Nat × Value)} {st : List Value} {pc : Nat} {i : Nat} {n : Int} {x v : Int32} {lv' : List (Nat × Value)} (h : CX E cc nL own rm) (d : decode cc pc = .ok (.iinc i n, 3)) (q : Nat) (hq : lv[q]? = some (i, .int x)) (hv : x + Int32.ofInt n = v) (hn : i < nL) (hl : stl1 lv i (.int v) = lv') (k : WX E nL G M kc ks lv' (st) (pc + 3)) : WX E nL G M kc ks lv (st) (pc) := by
  subst hl
  exact fun ad H lo ls h1 h2 h3 h4 => lv_iinc h.x h.b d h4 (lvm hq) hv hn (stl1_map ad lv i (.int v)) (fun ls h4 => (k ad H lo ls h1 h2 h3 h4))
theorem x_iadd {E : EN} {cc : ByteArray} {nL : Nat} {own : String} {rm : Room} {G : GG} {M : MM} {kc ks : Nat} {lv : List (Nat × Value)} {st : List Value} {pc : Nat} {x y : Int32} (h : CX E cc nL own rm) (d : decode cc pc = .ok (.iadd, 1)) (k : WX E nL G M kc ks lv (.int (x + y) :: st) (pc + 1)) : WX E nL G M kc ks lv (.int y :: .int x :: st) (pc) := fun ad H lo ls h1 h2 h3 h4 => lv_iadd h.x h.b d (k ad H lo ls h1 h2 h3 h4)
theorem x_isub {E : EN} {cc : ByteArray} {nL : Nat} {own : String} {rm : Room} {G : GG} {M : MM} {kc ks : Nat} {lv : List (Nat × Value)} {st : List Value} {pc : Nat} {x y : Int32} (h : CX E cc nL own rm) (d : decode cc pc = .ok (.isub, 1)) (k : WX E nL G M kc ks lv (.int (x - y) :: st) (pc + 1)) : WX E nL G M kc ks lv (.int y :: .int x :: st) (pc) := fun ad H lo ls h1 h2 h3 h4 => lv_isub h.x h.b d (k ad H lo ls h1 h2 h3 h4)
theorem x_imul {E : EN} {cc : ByteArray} {nL : Nat} {own : String} {rm : Room} {G : GG} {M : MM} {kc ks : Nat} {lv : List (Nat × Value)} {st : List Value} {pc : Nat} {x y : Int32} (h : CX E cc nL own rm) (d : decode cc pc = .ok (.imul, 1)) (k : WX E nL G M kc ks lv (.int (x * y) :: st) (pc + 1)) : WX E nL G M kc ks lv (.int y :: .int x :: st) (pc) := fun ad H lo ls h1 h2 h3 h4 => lv_imul h.x h.b d (k ad H lo ls h1 h2 h3 h4)
theorem x_iand {E : EN} {cc : ByteArray} {nL : Nat} {own : String} {rm : Room} {G : GG} {M : MM} {kc ks : Nat} {lv : List (Nat × Value)} {st : List Value} {pc : Nat} {x y : Int32} (h : CX E cc nL own rm) (d : decode cc pc = .ok (.iand, 1)) (k : WX E nL G M kc ks lv (.int (x &&& y) :: st) (pc + 1)) : WX E nL G M kc ks lv (.int y :: .int x :: st) (pc) := fun ad H lo ls h1 h2 h3 h4 => lv_iand h.x h.b d (k ad H lo ls h1 h2 h3 h4)
theorem x_ior {E : EN} {cc : ByteArray} {nL : Nat} {own : String} {rm : Room} {G : GG} {M : MM} {kc ks : Nat} {lv : List (Nat × Value)} {st : List Value} {pc : Nat} {x y : Int32} (h : CX E cc nL own rm) (d : decode cc pc = .ok (.ior, 1)) (k : WX E nL G M kc ks lv (.int (x ||| y) :: st) (pc + 1)) : WX E nL G M kc ks lv (.int y :: .int x :: st) (pc) := fun ad H lo ls h1 h2 h3 h4 => lv_ior h.x h.b d (k ad H lo ls h1 h2 h3 h4)
theorem x_ixor {E : EN} {cc : ByteArray} {nL : Nat} {own : String} {rm : Room} {G : GG} {M : MM} {kc ks : Nat} {lv : List (Nat × Value)} {st : List Value} {pc : Nat} {x y : Int32} (h : CX E cc nL own rm) (d : decode cc pc = .ok (.ixor, 1)) (k : WX E nL G M kc ks lv (.int (x ^^^ y) :: st) (pc + 1)) : WX E nL G M kc ks lv (.int y :: .int x :: st) (pc) := fun ad H lo ls h1 h2 h3 h4 => lv_ixor h.x h.b d (k ad H lo ls h1 h2 h3 h4)
theorem x_ishl {E : EN} {cc : ByteArray} {nL : Nat} {own : String} {rm : Room} {G : GG} {M : MM} {kc ks : Nat} {lv : List (Nat × Value)} {st : List Value} {pc : Nat} {x y : Int32} (h : CX E cc nL own rm) (d : decode cc pc = .ok (.ishl, 1)) (k : WX E nL G M kc ks lv (.int (x <<< (y &&& 31)) :: st) (pc + 1)) : WX E nL G M kc ks lv (.int y :: .int x :: st) (pc) := fun ad H lo ls h1 h2 h3 h4 => lv_ishl h.x h.b d (k ad H lo ls h1 h2 h3 h4)
theorem x_ishr {E : EN} {cc : ByteArray} {nL : Nat} {own : String} {rm : Room} {G : GG} {M : MM} {kc ks : Nat} {lv : List (Nat × Value)} {st : List Value} {pc : Nat} {x y : Int32} (h : CX E cc nL own rm) (d : decode cc pc = .ok (.ishr, 1)) (k : WX E nL G M kc ks lv (.int (x >>> (y &&& 31)) :: st) (pc + 1)) : WX E nL G M kc ks lv (.int y :: .int x :: st) (pc) := fun ad H lo ls h1 h2 h3 h4 => lv_ishr h.x h.b d (k ad H lo ls h1 h2 h3 h4)
theorem x_idiv {E : EN} {cc : ByteArray} {nL : Nat} {own : String} {rm : Room} {G : GG} {M : MM} {kc ks : Nat} {lv : List (Nat × Value)} {st : List Value} {pc : Nat} {x y : Int32} (h : CX E cc nL own rm) (d : decode cc pc = .ok (.idiv, 1)) (hne : ¬ y = 0) (k : WX E nL G M kc ks lv (.int (x / y) :: st) (pc + 1)) : WX E nL G M kc ks lv (.int y :: .int x :: st) (pc) := fun ad H lo ls h1 h2 h3 h4 => lv_idiv h.x h.b d hne (k ad H lo ls h1 h2 h3 h4)
theorem x_irem {E : EN} {cc : ByteArray} {nL : Nat} {own : String} {rm : Room} {G : GG} {M : MM} {kc ks : Nat} {lv : List (Nat × Value)} {st : List Value} {pc : Nat} {x y : Int32} (h : CX E cc nL own rm) (d : decode cc pc = .ok (.irem, 1)) (hne : ¬ y = 0) (k : WX E nL G M kc ks lv (.int (x - x / y * y) :: st) (pc + 1)) : WX E nL G M kc ks lv (.int y :: .int x :: st) (pc) := fun ad H lo ls h1 h2 h3 h4 => lv_irem h.x h.b d hne (k ad H lo ls h1 h2 h3 h4)
theorem x_iushr {E : EN} {cc : ByteArray} {nL : Nat} {own : String} {rm : Room} {G : GG} {M : MM} {kc ks : Nat} {lv : List (Nat × Value)} {st : List Value} {pc : Nat} {x y : Int32} (h : CX E cc nL own rm) (d : decode cc pc = .ok (.iushr, 1)) (k : WX E nL G M kc ks lv (.int ((x.toUInt32 >>> (y.toUInt32 &&& Int32.toUInt32 31)).toInt32) :: st) (pc + 1)) : WX E nL G M kc ks lv (.int y :: .int x :: st) (pc) := fun ad H lo ls h1 h2 h3 h4 => lv_iushr h.x h.b d rfl (k ad H lo ls h1 h2 h3 h4)
theorem x_ineg {E : EN} {cc : ByteArray} {nL : Nat} {own : String} {rm : Room} {G : GG} {M : MM} {kc ks : Nat} {lv : List (Nat × Value)} {st : List Value} {pc : Nat} {x : Int32} (h : CX E cc nL own rm) (d : decode cc pc = .ok (.ineg, 1)) (k : WX E nL G M kc ks lv (.int (-x) :: st) (pc + 1)) : WX E nL G M kc ks lv (.int x :: st) (pc) := fun ad H lo ls h1 h2 h3 h4 => lv_ineg h.x h.b d (k ad H lo ls h1 h2 h3 h4)
theorem x_ladd {E : EN} {cc : ByteArray} {nL : Nat} {own : String} {rm : Room} {G : GG} {M : MM} {kc ks : Nat} {lv : List (Nat × Value)} {st : List Value} {pc : Nat} {x y : Int64} (h : CX E cc nL own rm) (d : decode cc pc = .ok (.ladd, 1)) (k : WX E nL G M kc ks lv (.long (x + y) :: st) (pc + 1)) : WX E nL G M kc ks lv (.long y :: .long x :: st) (pc) := fun ad H lo ls h1 h2 h3 h4 => lv_ladd h.x h.b d (k ad H lo ls h1 h2 h3 h4)
theorem x_lsub {E : EN} {cc : ByteArray} {nL : Nat} {own : String} {rm : Room} {G : GG} {M : MM} {kc ks : Nat} {lv : List (Nat × Value)} {st : List Value} {pc : Nat} {x y : Int64} (h : CX E cc nL own rm) (d : decode cc pc = .ok (.lsub, 1)) (k : WX E nL G M kc ks lv (.long (x - y) :: st) (pc + 1)) : WX E nL G M kc ks lv (.long y :: .long x :: st) (pc) := fun ad H lo ls h1 h2 h3 h4 => lv_lsub h.x h.b d (k ad H lo ls h1 h2 h3 h4)
theorem x_lmul {E : EN} {cc : ByteArray} {nL : Nat} {own : String} {rm : Room} {G : GG} {M : MM} {kc ks : Nat} {lv : List (Nat × Value)} {st : List Value} {pc : Nat} {x y : Int64} (h : CX E cc nL own rm) (d : decode cc pc = .ok (.lmul, 1)) (k : WX E nL G M kc ks lv (.long (x * y) :: st) (pc + 1)) : WX E nL G M kc ks lv (.long y :: .long x :: st) (pc) := fun ad H lo ls h1 h2 h3 h4 => lv_lmul h.x h.b d (k ad H lo ls h1 h2 h3 h4)
theorem x_land {E : EN} {cc : ByteArray} {nL : Nat} {own : String} {rm : Room} {G : GG} {M : MM} {kc ks : Nat} {lv : List (Nat × Value)} {st : List Value} {pc : Nat} {x y : Int64} (h : CX E cc nL own rm) (d : decode cc pc = .ok (.land, 1)) (k : WX E nL G M kc ks lv (.long (x &&& y) :: st) (pc + 1)) : WX E nL G M kc ks lv (.long y :: .long x :: st) (pc) := fun ad H lo ls h1 h2 h3 h4 => lv_land h.x h.b d (k ad H lo ls h1 h2 h3 h4)
theorem x_lor {E : EN} {cc : ByteArray} {nL : Nat} {own : String} {rm : Room} {G : GG} {M : MM} {kc ks : Nat} {lv : List (Nat × Value)} {st : List Value} {pc : Nat} {x y : Int64} (h : CX E cc nL own rm) (d : decode cc pc = .ok (.lor, 1)) (k : WX E nL G M kc ks lv (.long (x ||| y) :: st) (pc + 1)) : WX E nL G M kc ks lv (.long y :: .long x :: st) (pc) := fun ad H lo ls h1 h2 h3 h4 => lv_lor h.x h.b d (k ad H lo ls h1 h2 h3 h4)
theorem x_ldiv {E : EN} {cc : ByteArray} {nL : Nat} {own : String} {rm : Room} {G : GG} {M : MM} {kc ks : Nat} {lv : List (Nat × Value)} {st : List Value} {pc : Nat} {x y : Int64} (h : CX E cc nL own rm) (d : decode cc pc = .ok (.ldiv, 1)) (hne : ¬ y = 0) (k : WX E nL G M kc ks lv (.long (x / y) :: st) (pc + 1)) : WX E nL G M kc ks lv (.long y :: .long x :: st) (pc) := fun ad H lo ls h1 h2 h3 h4 => lv_ldiv h.x h.b d hne (k ad H lo ls h1 h2 h3 h4)
theorem x_lrem {E : EN} {cc : ByteArray} {nL : Nat} {own : String} {rm : Room} {G : GG} {M : MM} {kc ks : Nat} {lv : List (Nat × Value)} {st : List Value} {pc : Nat} {x y : Int64} (h : CX E cc nL own rm) (d : decode cc pc = .ok (.lrem, 1)) (hne : ¬ y = 0) (k : WX E nL G M kc ks lv (.long (x - x / y * y) :: st) (pc + 1)) : WX E nL G M kc ks lv (.long y :: .long x :: st) (pc) := fun ad H lo ls h1 h2 h3 h4 => lv_lrem h.x h.b d hne (k ad H lo ls h1 h2 h3 h4)
theorem x_lshl {E : EN} {cc : ByteArray} {nL : Nat} {own : String} {rm : Room} {G : GG} {M : MM} {kc ks : Nat} {lv : List (Nat × Value)} {st : List Value} {pc : Nat} {x : Int64} {y : Int32} (h : CX E cc nL own rm) (d : decode cc pc = .ok (.lshl, 1)) (k : WX E nL G M kc ks lv (.long (x <<< (y.toInt64 &&& 63)) :: st) (pc + 1)) : WX E nL G M kc ks lv (.int y :: .long x :: st) (pc) := fun ad H lo ls h1 h2 h3 h4 => lv_lshl h.x h.b d rfl (k ad H lo ls h1 h2 h3 h4)
theorem x_lshr {E : EN} {cc : ByteArray} {nL : Nat} {own : String} {rm : Room} {G : GG} {M : MM} {kc ks : Nat} {lv : List (Nat × Value)} {st : List Value} {pc : Nat} {x : Int64} {y : Int32} (h : CX E cc nL own rm) (d : decode cc pc = .ok (.lshr, 1)) (k : WX E nL G M kc ks lv (.long (x >>> (y.toInt64 &&& 63)) :: st) (pc + 1)) : WX E nL G M kc ks lv (.int y :: .long x :: st) (pc) := fun ad H lo ls h1 h2 h3 h4 => lv_lshr h.x h.b d rfl (k ad H lo ls h1 h2 h3 h4)
theorem x_i2l {E : EN} {cc : ByteArray} {nL : Nat} {own : String} {rm : Room} {G : GG} {M : MM} {kc ks : Nat} {lv : List (Nat × Value)} {st : List Value} {pc : Nat} {x : Int32} (h : CX E cc nL own rm) (d : decode cc pc = .ok (.i2l, 1)) (k : WX E nL G M kc ks lv (.long (x.toInt64) :: st) (pc + 1)) : WX E nL G M kc ks lv (.int x :: st) (pc) := fun ad H lo ls h1 h2 h3 h4 => lv_i2l h.x h.b d rfl (k ad H lo ls h1 h2 h3 h4)
theorem x_l2i {E : EN} {cc : ByteArray} {nL : Nat} {own : String} {rm : Room} {G : GG} {M : MM} {kc ks : Nat} {lv : List (Nat × Value)} {st : List Value} {pc : Nat} {x : Int64} (h : CX E cc nL own rm) (d : decode cc pc = .ok (.l2i, 1)) (k : WX E nL G M kc ks lv (.int (x.toInt32) :: st) (pc + 1)) : WX E nL G M kc ks lv (.long x :: st) (pc) := fun ad H lo ls h1 h2 h3 h4 => lv_l2i h.x h.b d rfl (k ad H lo ls h1 h2 h3 h4)
theorem x_i2b {E : EN} {cc : ByteArray} {nL : Nat} {own : String} {rm : Room} {G : GG} {M : MM} {kc ks : Nat} {lv : List (Nat × Value)} {st : List Value} {pc : Nat} {x : Int32} (h : CX E cc nL own rm) (d : decode cc pc = .ok (.i2b, 1)) (k : WX E nL G M kc ks lv (.int (x.toInt8.toInt32) :: st) (pc + 1)) : WX E nL G M kc ks lv (.int x :: st) (pc) := fun ad H lo ls h1 h2 h3 h4 => lv_i2b h.x h.b d rfl (k ad H lo ls h1 h2 h3 h4)
theorem x_i2s {E : EN} {cc : ByteArray} {nL : Nat} {own : String} {rm : Room} {G : GG} {M : MM} {kc ks : Nat} {lv : List (Nat × Value)} {st : List Value} {pc : Nat} {x : Int32} (h : CX E cc nL own rm) (d : decode cc pc = .ok (.i2s, 1)) (k : WX E nL G M kc ks lv (.int (x.toInt16.toInt32) :: st) (pc + 1)) : WX E nL G M kc ks lv (.int x :: st) (pc) := fun ad H lo ls h1 h2 h3 h4 => lv_i2s h.x h.b d rfl (k ad H lo ls h1 h2 h3 h4)
theorem x_i2c {E : EN} {cc : ByteArray} {nL : Nat} {own : String} {rm : Room} {G : GG} {M : MM} {kc ks : Nat} {lv : List (Nat × Value)} {st : List Value} {pc : Nat} {x : Int32} (h : CX E cc nL own rm) (d : decode cc pc = .ok (.i2c, 1)) (k : WX E nL G M kc ks lv (.int ((x.toUInt32 % 65536).toInt32) :: st) (pc + 1)) : WX E nL G M kc ks lv (.int x :: st) (pc) := fun ad H lo ls h1 h2 h3 h4 => lv_i2c h.x h.b d rfl (k ad H lo ls h1 h2 h3 h4)
theorem x_dup {E : EN} {cc : ByteArray} {nL : Nat} {own : String} {rm : Room} {G : GG} {M : MM} {kc ks : Nat} {lv : List (Nat × Value)} {st : List Value} {pc : Nat} {v : Value} (h : CX E cc nL own rm) (d : decode cc pc = .ok (.dup, 1)) (hv : v.category = 1) (k : WX E nL G M kc ks lv (v :: v :: st) (pc + 1)) : WX E nL G M kc ks lv (v :: st) (pc) := fun ad H lo ls h1 h2 h3 h4 => lv_dup h.x h.b d (by rw [cv_cat]; exact hv) (k ad H lo ls h1 h2 h3 h4)
theorem x_dup_x1 {E : EN} {cc : ByteArray} {nL : Nat} {own : String} {rm : Room} {G : GG} {M : MM} {kc ks : Nat} {lv : List (Nat × Value)} {st : List Value} {pc : Nat} {v u : Value} (h : CX E cc nL own rm) (d : decode cc pc = .ok (.dup_x1, 1)) (hv : v.category = 1) (hu : u.category = 1) (k : WX E nL G M kc ks lv (v :: u :: v :: st) (pc + 1)) : WX E nL G M kc ks lv (v :: u :: st) (pc) := fun ad H lo ls h1 h2 h3 h4 => lv_dup_x1 h.x h.b d (by rw [cv_cat]; exact hv) (by rw [cv_cat]; exact hu) (k ad H lo ls h1 h2 h3 h4)
theorem x_dup2 {E : EN} {cc : ByteArray} {nL : Nat} {own : String} {rm : Room} {G : GG} {M : MM} {kc ks : Nat} {lv : List (Nat × Value)} {st : List Value} {pc : Nat} {v u : Value} (h : CX E cc nL own rm) (d : decode cc pc = .ok (.dup2, 1)) (hv : v.category = 1) (hu : u.category = 1) (k : WX E nL G M kc ks lv (v :: u :: v :: u :: st) (pc + 1)) : WX E nL G M kc ks lv (v :: u :: st) (pc) := fun ad H lo ls h1 h2 h3 h4 => lv_dup2_11 h.x h.b d (by rw [cv_cat]; exact hv) (by rw [cv_cat]; exact hu) (k ad H lo ls h1 h2 h3 h4)
theorem x_pop {E : EN} {cc : ByteArray} {nL : Nat} {own : String} {rm : Room} {G : GG} {M : MM} {kc ks : Nat} {lv : List (Nat × Value)} {st : List Value} {pc : Nat} {v : Value} (h : CX E cc nL own rm) (d : decode cc pc = .ok (.pop, 1)) (hv : v.category = 1) (k : WX E nL G M kc ks lv (st) (pc + 1)) : WX E nL G M kc ks lv (v :: st) (pc) := fun ad H lo ls h1 h2 h3 h4 => lv_pop h.x h.b d (by rw [cv_cat]; exact hv) (k ad H lo ls h1 h2 h3 h4)
theorem x_lcmp {E : EN} {cc : ByteArray} {nL : Nat} {own : String} {rm : Room} {G : GG} {M : MM} {kc ks : Nat} {lv : List (Nat × Value)} {st : List Value} {pc : Nat} {x y : Int64} (h : CX E cc nL own rm) (d : decode cc pc = .ok (.lcmp, 1)) (k : WX E nL G M kc ks lv (.int (lg_cmp x y) :: st) (pc + 1)) : WX E nL G M kc ks lv (.long y :: .long x :: st) (pc) := fun ad H lo ls h1 h2 h3 h4 => W.lcmp h.x h.b d (k ad H lo ls h1 h2 h3 h4)
theorem x_if_eq {E : EN} {cc : ByteArray} {nL : Nat} {own : String} {rm : Room} {G : GG} {M : MM} {kc ks : Nat} {lv : List (Nat × Value)} {st : List Value} {pc : Nat} {x : Int32} {off : Int} {tgt : Nat} (h : CX E cc nL own rm) (d : decode cc pc = .ok (.ifCond .eq off, 3)) (ht : (pc : Int) + off = (tgt : Int)) (kt : x = 0 → WX E nL G M kc ks lv (st) (tgt)) (kf : ¬ x = 0 → WX E nL G M kc ks lv (st) (pc + 3)) : WX E nL G M kc ks lv (.int x :: st) (pc) := fun ad H lo ls h1 h2 h3 h4 => lv_if_eq h.x h.b d ht (fun c => kt c ad H lo ls h1 h2 h3 h4) (fun c => kf c ad H lo ls h1 h2 h3 h4)
theorem x_icmp_eq {E : EN} {cc : ByteArray} {nL : Nat} {own : String} {rm : Room} {G : GG} {M : MM} {kc ks : Nat} {lv : List (Nat × Value)} {st : List Value} {pc : Nat} {x y : Int32} {off : Int} {tgt : Nat} (h : CX E cc nL own rm) (d : decode cc pc = .ok (.if_icmp .eq off, 3)) (ht : (pc : Int) + off = (tgt : Int)) (kt : x = y → WX E nL G M kc ks lv (st) (tgt)) (kf : ¬ x = y → WX E nL G M kc ks lv (st) (pc + 3)) : WX E nL G M kc ks lv (.int y :: .int x :: st) (pc) := fun ad H lo ls h1 h2 h3 h4 => lv_icmp_eq h.x h.b d ht (fun c => kt c ad H lo ls h1 h2 h3 h4) (fun c => kf c ad H lo ls h1 h2 h3 h4)
theorem x_if_ne {E : EN} {cc : ByteArray} {nL : Nat} {own : String} {rm : Room} {G : GG} {M : MM} {kc ks : Nat} {lv : List (Nat × Value)} {st : List Value} {pc : Nat} {x : Int32} {off : Int} {tgt : Nat} (h : CX E cc nL own rm) (d : decode cc pc = .ok (.ifCond .ne off, 3)) (ht : (pc : Int) + off = (tgt : Int)) (kt : ¬ x = 0 → WX E nL G M kc ks lv (st) (tgt)) (kf : x = 0 → WX E nL G M kc ks lv (st) (pc + 3)) : WX E nL G M kc ks lv (.int x :: st) (pc) := fun ad H lo ls h1 h2 h3 h4 => lv_if_ne h.x h.b d ht (fun c => kt c ad H lo ls h1 h2 h3 h4) (fun c => kf c ad H lo ls h1 h2 h3 h4)
theorem x_icmp_ne {E : EN} {cc : ByteArray} {nL : Nat} {own : String} {rm : Room} {G : GG} {M : MM} {kc ks : Nat} {lv : List (Nat × Value)} {st : List Value} {pc : Nat} {x y : Int32} {off : Int} {tgt : Nat} (h : CX E cc nL own rm) (d : decode cc pc = .ok (.if_icmp .ne off, 3)) (ht : (pc : Int) + off = (tgt : Int)) (kt : ¬ x = y → WX E nL G M kc ks lv (st) (tgt)) (kf : x = y → WX E nL G M kc ks lv (st) (pc + 3)) : WX E nL G M kc ks lv (.int y :: .int x :: st) (pc) := fun ad H lo ls h1 h2 h3 h4 => lv_icmp_ne h.x h.b d ht (fun c => kt c ad H lo ls h1 h2 h3 h4) (fun c => kf c ad H lo ls h1 h2 h3 h4)
theorem x_if_lt {E : EN} {cc : ByteArray} {nL : Nat} {own : String} {rm : Room} {G : GG} {M : MM} {kc ks : Nat} {lv : List (Nat × Value)} {st : List Value} {pc : Nat} {x : Int32} {off : Int} {tgt : Nat} (h : CX E cc nL own rm) (d : decode cc pc = .ok (.ifCond .lt off, 3)) (ht : (pc : Int) + off = (tgt : Int)) (kt : x < 0 → WX E nL G M kc ks lv (st) (tgt)) (kf : ¬ x < 0 → WX E nL G M kc ks lv (st) (pc + 3)) : WX E nL G M kc ks lv (.int x :: st) (pc) := fun ad H lo ls h1 h2 h3 h4 => lv_if_lt h.x h.b d ht (fun c => kt c ad H lo ls h1 h2 h3 h4) (fun c => kf c ad H lo ls h1 h2 h3 h4)
theorem x_icmp_lt {E : EN} {cc : ByteArray} {nL : Nat} {own : String} {rm : Room} {G : GG} {M : MM} {kc ks : Nat} {lv : List (Nat × Value)} {st : List Value} {pc : Nat} {x y : Int32} {off : Int} {tgt : Nat} (h : CX E cc nL own rm) (d : decode cc pc = .ok (.if_icmp .lt off, 3)) (ht : (pc : Int) + off = (tgt : Int)) (kt : x < y → WX E nL G M kc ks lv (st) (tgt)) (kf : ¬ x < y → WX E nL G M kc ks lv (st) (pc + 3)) : WX E nL G M kc ks lv (.int y :: .int x :: st) (pc) := fun ad H lo ls h1 h2 h3 h4 => lv_icmp_lt h.x h.b d ht (fun c => kt c ad H lo ls h1 h2 h3 h4) (fun c => kf c ad H lo ls h1 h2 h3 h4)
theorem x_if_ge {E : EN} {cc : ByteArray} {nL : Nat} {own : String} {rm : Room} {G : GG} {M : MM} {kc ks : Nat} {lv : List (Nat × Value)} {st : List Value} {pc : Nat} {x : Int32} {off : Int} {tgt : Nat} (h : CX E cc nL own rm) (d : decode cc pc = .ok (.ifCond .ge off, 3)) (ht : (pc : Int) + off = (tgt : Int)) (kt : 0 ≤ x → WX E nL G M kc ks lv (st) (tgt)) (kf : ¬ 0 ≤ x → WX E nL G M kc ks lv (st) (pc + 3)) : WX E nL G M kc ks lv (.int x :: st) (pc) := fun ad H lo ls h1 h2 h3 h4 => lv_if_ge h.x h.b d ht (fun c => kt c ad H lo ls h1 h2 h3 h4) (fun c => kf c ad H lo ls h1 h2 h3 h4)
theorem x_icmp_ge {E : EN} {cc : ByteArray} {nL : Nat} {own : String} {rm : Room} {G : GG} {M : MM} {kc ks : Nat} {lv : List (Nat × Value)} {st : List Value} {pc : Nat} {x y : Int32} {off : Int} {tgt : Nat} (h : CX E cc nL own rm) (d : decode cc pc = .ok (.if_icmp .ge off, 3)) (ht : (pc : Int) + off = (tgt : Int)) (kt : y ≤ x → WX E nL G M kc ks lv (st) (tgt)) (kf : ¬ y ≤ x → WX E nL G M kc ks lv (st) (pc + 3)) : WX E nL G M kc ks lv (.int y :: .int x :: st) (pc) := fun ad H lo ls h1 h2 h3 h4 => lv_icmp_ge h.x h.b d ht (fun c => kt c ad H lo ls h1 h2 h3 h4) (fun c => kf c ad H lo ls h1 h2 h3 h4)
theorem x_if_gt {E : EN} {cc : ByteArray} {nL : Nat} {own : String} {rm : Room} {G : GG} {M : MM} {kc ks : Nat} {lv : List (Nat × Value)} {st : List Value} {pc : Nat} {x : Int32} {off : Int} {tgt : Nat} (h : CX E cc nL own rm) (d : decode cc pc = .ok (.ifCond .gt off, 3)) (ht : (pc : Int) + off = (tgt : Int)) (kt : 0 < x → WX E nL G M kc ks lv (st) (tgt)) (kf : ¬ 0 < x → WX E nL G M kc ks lv (st) (pc + 3)) : WX E nL G M kc ks lv (.int x :: st) (pc) := fun ad H lo ls h1 h2 h3 h4 => lv_if_gt h.x h.b d ht (fun c => kt c ad H lo ls h1 h2 h3 h4) (fun c => kf c ad H lo ls h1 h2 h3 h4)
theorem x_icmp_gt {E : EN} {cc : ByteArray} {nL : Nat} {own : String} {rm : Room} {G : GG} {M : MM} {kc ks : Nat} {lv : List (Nat × Value)} {st : List Value} {pc : Nat} {x y : Int32} {off : Int} {tgt : Nat} (h : CX E cc nL own rm) (d : decode cc pc = .ok (.if_icmp .gt off, 3)) (ht : (pc : Int) + off = (tgt : Int)) (kt : y < x → WX E nL G M kc ks lv (st) (tgt)) (kf : ¬ y < x → WX E nL G M kc ks lv (st) (pc + 3)) : WX E nL G M kc ks lv (.int y :: .int x :: st) (pc) := fun ad H lo ls h1 h2 h3 h4 => lv_icmp_gt h.x h.b d ht (fun c => kt c ad H lo ls h1 h2 h3 h4) (fun c => kf c ad H lo ls h1 h2 h3 h4)
theorem x_if_le {E : EN} {cc : ByteArray} {nL : Nat} {own : String} {rm : Room} {G : GG} {M : MM} {kc ks : Nat} {lv : List (Nat × Value)} {st : List Value} {pc : Nat} {x : Int32} {off : Int} {tgt : Nat} (h : CX E cc nL own rm) (d : decode cc pc = .ok (.ifCond .le off, 3)) (ht : (pc : Int) + off = (tgt : Int)) (kt : x ≤ 0 → WX E nL G M kc ks lv (st) (tgt)) (kf : ¬ x ≤ 0 → WX E nL G M kc ks lv (st) (pc + 3)) : WX E nL G M kc ks lv (.int x :: st) (pc) := fun ad H lo ls h1 h2 h3 h4 => lv_if_le h.x h.b d ht (fun c => kt c ad H lo ls h1 h2 h3 h4) (fun c => kf c ad H lo ls h1 h2 h3 h4)
theorem x_icmp_le {E : EN} {cc : ByteArray} {nL : Nat} {own : String} {rm : Room} {G : GG} {M : MM} {kc ks : Nat} {lv : List (Nat × Value)} {st : List Value} {pc : Nat} {x y : Int32} {off : Int} {tgt : Nat} (h : CX E cc nL own rm) (d : decode cc pc = .ok (.if_icmp .le off, 3)) (ht : (pc : Int) + off = (tgt : Int)) (kt : x ≤ y → WX E nL G M kc ks lv (st) (tgt)) (kf : ¬ x ≤ y → WX E nL G M kc ks lv (st) (pc + 3)) : WX E nL G M kc ks lv (.int y :: .int x :: st) (pc) := fun ad H lo ls h1 h2 h3 h4 => lv_icmp_le h.x h.b d ht (fun c => kt c ad H lo ls h1 h2 h3 h4) (fun c => kf c ad H lo ls h1 h2 h3 h4)
theorem x_goto {E : EN} {cc : ByteArray} {nL : Nat} {own : String} {rm : Room} {G : GG} {M : MM} {kc ks : Nat} {lv : List (Nat × Value)} {st : List Value} {pc : Nat} {off : Int} {tgt : Nat} (h : CX E cc nL own rm) (d : decode cc pc = .ok (.goto off, 3)) (ht : (pc : Int) + off = (tgt : Int)) (k : WX E nL G M kc ks lv (st) (tgt)) : WX E nL G M kc ks lv (st) (pc) := fun ad H lo ls h1 h2 h3 h4 => lv_goto h.x h.b d ht (k ad H lo ls h1 h2 h3 h4)
theorem x_tableIn {E : EN} {cc : ByteArray} {nL : Nat} {own : String} {rm : Room} {G : GG} {M : MM} {kc ks : Nat} {lv : List (Nat × Value)} {st : List Value} {pc : Nat} {dflt lw hi : Int} {offs : Array Int} {len : Nat} {x : Int32} {off : Int} {tgt : Nat} (h : CX E cc nL own rm) (d : decode cc pc = .ok (.tableswitch dflt lw hi offs, len)) (g1 : ¬ x.toInt < lw) (g2 : ¬ hi < x.toInt) (ho : offs[(x.toInt - lw).toNat]? = some off) (ht : (pc : Int) + off = (tgt : Int)) (k : WX E nL G M kc ks lv (st) (tgt)) : WX E nL G M kc ks lv (.int x :: st) (pc) := fun ad H lo ls h1 h2 h3 h4 => lv_tableIn h.x h.b d g1 g2 ho ht (k ad H lo ls h1 h2 h3 h4)
theorem x_tableOut {E : EN} {cc : ByteArray} {nL : Nat} {own : String} {rm : Room} {G : GG} {M : MM} {kc ks : Nat} {lv : List (Nat × Value)} {st : List Value} {pc : Nat} {dflt lw hi : Int} {offs : Array Int} {len : Nat} {x : Int32} {tgt : Nat} (h : CX E cc nL own rm) (d : decode cc pc = .ok (.tableswitch dflt lw hi offs, len)) (g : x.toInt < lw ∨ hi < x.toInt) (ht : (pc : Int) + dflt = (tgt : Int)) (k : WX E nL G M kc ks lv (st) (tgt)) : WX E nL G M kc ks lv (.int x :: st) (pc) := fun ad H lo ls h1 h2 h3 h4 => lv_tableOut h.x h.b d g ht (k ad H lo ls h1 h2 h3 h4)
theorem x_ifnull {E : EN} {cc : ByteArray} {nL : Nat} {own : String} {rm : Room} {G : GG} {M : MM} {kc ks : Nat} {lv : List (Nat × Value)} {st : List Value} {pc : Nat} {q : Nat} {off : Int} (h : CX E cc nL own rm) (d : decode cc pc = .ok (.ifnull off, 3)) (k : WX E nL G M kc ks lv (st) (pc + 3)) : WX E nL G M kc ks lv (.ref q :: st) (pc) := fun ad H lo ls h1 h2 h3 h4 => lv_ifnull h.x h.b d (k ad H lo ls h1 h2 h3 h4)
theorem x_ifnonnull {E : EN} {cc : ByteArray} {nL : Nat} {own : String} {rm : Room} {G : GG} {M : MM} {kc ks : Nat} {lv : List (Nat × Value)} {st : List Value} {pc : Nat} {q : Nat} {off : Int} {tgt : Nat} (h : CX E cc nL own rm) (d : decode cc pc = .ok (.ifnonnull off, 3)) (ht : (pc : Int) + off = (tgt : Int)) (k : WX E nL G M kc ks lv (st) (tgt)) : WX E nL G M kc ks lv (.ref q :: st) (pc) := fun ad H lo ls h1 h2 h3 h4 => lv_ifnonnull h.x h.b d ht (k ad H lo ls h1 h2 h3 h4)
theorem x_ifnonnullN {E : EN} {cc : ByteArray} {nL : Nat} {own : String} {rm : Room} {G : GG} {M : MM} {kc ks : Nat} {lv : List (Nat × Value)} {st : List Value} {pc : Nat} {off : Int} (h : CX E cc nL own rm) (d : decode cc pc = .ok (.ifnonnull off, 3)) (k : WX E nL G M kc ks lv (st) (pc + 3)) : WX E nL G M kc ks lv (.null :: st) (pc) := fun ad H lo ls h1 h2 h3 h4 => lv_ifnonnullN h.x h.b d (k ad H lo ls h1 h2 h3 h4)
theorem x_lv {E : EN} {nL : Nat} {G : GG} {M : MM} {kc ks : Nat} {lv : List (Nat × Value)} {st : List Value} {pc : Nat} {lv' : List (Nat × Value)} (qs : List Nat) (hl : lv_pick lv qs = lv') (k : WX E nL G M kc ks lv' (st) (pc)) : WX E nL G M kc ks lv (st) (pc) := by
  intro ad H lo ls h1 h2 h3 h4
  refine k ad H lo ls h1 h2 h3 (lv_sub h4 qs ?_)
  rw [← hl]
  simp only [lv_pick, List.map_filterMap, List.getElem?_map]
theorem x_wide {E : EN} {nL : Nat} {G : GG} {M : MM} {kc ks : Nat} {lv : List (Nat × Value)} {st : List Value} {pc : Nat} {kc' ks' : Nat} (a : kc ≤ kc') (b : ks ≤ ks') (k : WX E nL G M kc' ks' lv st pc) : WX E nL G M kc ks lv st pc := fun ad H lo ls h1 h2 h3 h4 => W.widen a b (k ad H lo ls h1 h2 h3 h4)
theorem catmap {ad : Nat → Nat} {st : List Value} : ((st.map (cv ad)).map fun v => v.category).sum = (st.map fun v => v.category).sum := by
  rw [List.map_map]; congr 1; apply List.map_congr_left; intro v _; exact cv_cat ad v
def fav (t : Nat) (x : Int32) (y : Int64) (r : Value) : Value := match t with
  | 0 => .int x
  | 1 => .long y
  | _ => r
theorem fav_cv (ad : Nat → Nat) (t : Nat) (x : Int32) (y : Int64) (r : Value) : cv ad (fav t x y r) = fval ad t x y r := by
  unfold fav fval; split <;> rfl
theorem ws_putI {X : XE} {ad : Nat → Nat} {G : GG} {M : MM} {q c j : Nat} {x : Int32} (hq : isK G q c) (hc : c < 100) (hf : fk c j = 0) : (wsW X ad G M).set q (ad q, .inr (c, (fields ad c (G.2.2.2 q) (M.1 q) (M.2 q)).set j (.int x))) = wsW X ad G (mI M q j x) := by
  refine ws_set rfl ?_ ?_
  · rw [fields_set (r' := G.2.2.2 q) (f' := (mI M q j x).1 q) (g' := (mI M q j x).2 q) (by rw [hf]; simp [fval, mI]) (fun i hi => by simp [mI, hi])]
    rw [cellA, hq.2, cellK, if_pos hc]
  · intro k hk
    have e : (mI M q j x).1 k = M.1 k := by funext b; simp [mI, hk]
    simp only [cellA, e]; rfl
theorem ws_putL {X : XE} {ad : Nat → Nat} {G : GG} {M : MM} {q c j : Nat} {x : Int64} (hq : isK G q c) (hc : c < 100) (hf : fk c j = 1) : (wsW X ad G M).set q (ad q, .inr (c, (fields ad c (G.2.2.2 q) (M.1 q) (M.2 q)).set j (.long x))) = wsW X ad G (mL M q j x) := by
  refine ws_set rfl ?_ ?_
  · rw [fields_set (r' := G.2.2.2 q) (f' := (mL M q j x).1 q) (g' := (mL M q j x).2 q) (by rw [hf]; simp [fval, mL]) (fun i hi => by simp [mL, hi])]
    rw [cellA, hq.2, cellK, if_pos hc]
  · intro k hk
    have e : (mL M q j x).2 k = M.2 k := by funext b; simp [mL, hk]
    simp only [cellA, e]; rfl
theorem ws_putR {X : XE} {ad : Nat → Nat} {G : GG} {M : MM} {q c j : Nat} {v : Value} (hq : isK G q c) (hc : c < 100) (hf : fk c j = 2) : (wsW X ad G M).set q (ad q, .inr (c, (fields ad c (G.2.2.2 q) (M.1 q) (M.2 q)).set j (cv ad v))) = wsW X ad (mR G q j v) M := by
  refine ws_set rfl ?_ ?_
  · rw [fields_set (r' := (mR G q j v).2.2.2 q) (f' := M.1 q) (g' := M.2 q) (by rw [hf]; simp [fval, mR]) (fun i hi => by simp [mR, hi])]
    rw [cellA, show (mR G q j v).2.1 q = c from hq.2, cellK, if_pos hc]
  · intro k hk
    have e : (mR G q j v).2.2.2 k = G.2.2.2 k := by funext b; simp [mR, hk]
    simp only [cellA, e]; rfl
theorem ws_astI {X : XE} {ad : Nat → Nat} {G : GG} {M : MM} {q c i : Nat} {x : Int32} (hq : isK G q c) (h1 : ¬ c < 100) (h2 : c < 104) : (wsW X ad G M).set q (ad q, .inl (X.2.1 c, G.2.2.1 q, .inl (upd (M.1 q) i x))) = wsW X ad G (mI M q i x) := by
  refine ws_set rfl ?_ ?_
  · have e : (mI M q i x).1 q = upd (M.1 q) i x := by funext b; simp [mI, upd]
    rw [cellA, hq.2, cellK, if_neg h1, if_pos h2, e]
  · intro k hk
    have e : (mI M q i x).1 k = M.1 k := by funext b; simp [mI, hk]
    simp only [cellA, e]; rfl
theorem ws_astL {X : XE} {ad : Nat → Nat} {G : GG} {M : MM} {q i : Nat} {x : Int64} (hq : isK G q 104) : (wsW X ad G M).set q (ad q, .inl (X.2.1 104, G.2.2.1 q, .inr (.inl (vp_updL (M.2 q) i x)))) = wsW X ad G (mL M q i x) := by
  refine ws_set rfl ?_ ?_
  · have e : (mL M q i x).2 q = vp_updL (M.2 q) i x := by funext b; simp [mL, vp_updL]
    rw [cellA, hq.2, e]; rfl
  · intro k hk
    have e : (mL M q i x).2 k = M.2 k := by funext b; simp [mL, hk]
    simp only [cellA, e]; rfl
theorem ws_astR {X : XE} {ad : Nat → Nat} {G : GG} {M : MM} {q c i : Nat} {v : Value} (hq : isK G q c) (h1 : ¬ c < 105) : (wsW X ad G M).set q (ad q, .inl (X.2.1 c, G.2.2.1 q, .inr (.inr (.inr (.inr (va_up (fun j => rfo ad (G.2.2.2 q j)) i (rfo ad v))))))) = wsW X ad (mR G q i v) M := by
  refine ws_set rfl ?_ ?_
  · have e : (fun j => rfo ad ((mR G q i v).2.2.2 q j)) = va_up (fun j => rfo ad (G.2.2.2 q j)) i (rfo ad v) := by
      funext b
      by_cases hb : b = i
      · simp [mR, va_up, hb]
      · simp [mR, va_up, hb]
    rw [cellA, show (mR G q i v).2.1 q = c from hq.2, cellK, if_neg (by omega), if_neg (by omega), if_neg h1, e]; rfl
  · intro k hk
    have e : (mR G q i v).2.2.2 k = G.2.2.2 k := by funext b; simp [mR, hk]
    simp only [cellA, e]; rfl
theorem ws_cpy {X : XE} {ad : Nat → Nat} {G : GG} {M : MM} {q0 q1 c s d n : Nat} (hq : isK G q1 c) (h1 : ¬ c < 100) (h2 : c < 104) : (wsW X ad G M).set q1 (ad q1, .inl (X.2.1 c, G.2.2.1 q1, .inl (va_cpy (M.1 q0) (M.1 q1) s d n))) = wsW X ad G (mC M q0 s q1 d n) := by
  refine ws_set rfl ?_ ?_
  · have e : (mC M q0 s q1 d n).1 q1 = va_cpy (M.1 q0) (M.1 q1) s d n := by
      funext b; simp [mC, va_cpy]
    rw [cellA, hq.2, cellK, if_neg h1, if_pos h2, e]
  · intro k hk
    have e : (mC M q0 s q1 d n).1 k = M.1 k := by funext b; simp [mC, hk]
    simp only [cellA, e]; rfl
theorem okR {G : GG} {q j : Nat} {v : Value} (hv : okv G.1 v) (hr : rfk v) (h : ∀ k, k < G.1 → ∀ j, okv G.1 (G.2.2.2 k j) ∧ rfk (G.2.2.2 k j)) : ∀ k, k < (mR G q j v).1 → ∀ i, okv (mR G q j v).1 ((mR G q j v).2.2.2 k i) ∧ rfk ((mR G q j v).2.2.2 k i) := by
  intro k hk i
  show okv G.1 (if k = q ∧ i = j then v else G.2.2.2 k i) ∧ rfk (if k = q ∧ i = j then v else G.2.2.2 k i)
  split
  · exact ⟨hv, hr⟩
  · exact h k hk i
theorem x_get {E : EN} {cc : ByteArray} {nL : Nat} {own : String} {rm : Room} {G : GG} {M : MM} {kc ks : Nat} {lv : List (Nat × Value)} {st : List Value} {pc : Nat} {ref C : String} {T : u_T} {N index q c j : Nat} (h : CX E cc nL own rm) (hq : isK G q c) (hc : c < 100) (hcl : clT[c]? = some (C, T, N)) (hnf : nf c = N) (hj : j < N) (hin : ∀ w ∈ u_ws C T N, w ∈ lw_all) (hlink : Cond.fieldLink own index ref (T j).2.1 (T j).2.2.1 ∈ lw_all) (hsame : ∀ x, E.s.fieldFound? (T j).1 (T j).2.1 (T j).2.2.1 = some x → E.s.fieldFound? ref (T j).2.1 (T j).2.2.1 = some x) (d : decode cc pc = .ok (.getfield index, 3)) (k : WX E nL G M kc ks lv (fav (fk c j) (M.1 q j) (M.2 q j) (G.2.2.2 q j) :: st) (pc + 3)) : WX E nL G M kc ks lv (.ref q :: st) (pc) := by
  intro ad H lo ls h1 h2 h3 h4
  have kk := k ad H lo ls h1 h2 h3 h4
  rw [List.map_cons, fav_cv] at kk
  exact va_get h.x h.b h.ts hin h.own h.K h1.1 q (ws_obj hq hc) hcl j hj (h.ts _ hlink) hsame (fields_at (by rw [hnf]; exact hj)) d kk
theorem x_getN {E : EN} {cc : ByteArray} {nL : Nat} {own : String} {rm : Room} {G : GG} {M : MM} {kc ks : Nat} {lv : List (Nat × Value)} {st : List Value} {pc : Nat} {ref C : String} {T : u_T} {N index q c j : Nat} (h : CX E cc nL own rm) (hq : isK G q c) (hc : c < 100) (hcl : clT[c]? = some (C, T, N)) (hnf : nf c = N) (hj : j < N) (hin : ∀ w ∈ u_ws C T N, w ∈ lw_all) {host : String} (hlink : Cond.fieldLinkNest own index ref (T j).2.1 (T j).2.2.1 host ∈ xw) (hsame : ∀ x, E.s.fieldFound? (T j).1 (T j).2.1 (T j).2.2.1 = some x → E.s.fieldFound? ref (T j).2.1 (T j).2.2.1 = some x) (d : decode cc pc = .ok (.getfield index, 3)) (k : WX E nL G M kc ks lv (fav (fk c j) (M.1 q j) (M.2 q j) (G.2.2.2 q j) :: st) (pc + 3)) : WX E nL G M kc ks lv (.ref q :: st) (pc) := by
  intro ad H lo ls h1 h2 h3 h4
  have kk := k ad H lo ls h1 h2 h3 h4
  rw [List.map_cons, fav_cv] at kk
  exact va_getN h.x h.b h.ts hin h.own h.K h1.1 q (ws_obj hq hc) hcl j hj (va_Nw.use rfl (h.w hlink)) hsame (fields_at (by rw [hnf]; exact hj)) d kk
theorem x_putI {E : EN} {cc : ByteArray} {nL : Nat} {own : String} {rm : Room} {G : GG} {M : MM} {kc ks : Nat} {lv : List (Nat × Value)} {st : List Value} {pc : Nat} {ref C : String} {T : u_T} {N index q c j : Nat} {x : Int32} {ty : FieldType} (h : CX E cc nL own rm) (hq : isK G q c) (hc : c < 100) (hcl : clT[c]? = some (C, T, N)) (hnf : nf c = N) (hj : j < N) (hf : fk c j = 0) (hin : ∀ w ∈ u_ws C T N, w ∈ lw_all) (ty0 : Nat → FieldType) (hty : ∀ k, k < N → parseFieldDescriptor (T k).2.2.1 = some (ty0 k)) (hnm : ∀ a, a < N → ∀ b, b < N → a ≠ b → (T a).2.1 ≠ (T b).2.1) (hlink : Cond.fieldLink own index ref (T j).2.1 (T j).2.2.1 ∈ lw_all) (hsame : ∀ x, E.s.fieldFound? (T j).1 (T j).2.1 (T j).2.2.1 = some x → E.s.fieldFound? ref (T j).2.1 (T j).2.2.1 = some x) (hfin : (T j).2.2.2 = false) (hd : parseFieldDescriptor (T j).2.2.1 = some ty) (hn : narrow ty (.int x) = .int x) (hfit : fits ty (.int x) = true) (d : decode cc pc = .ok (.putfield index, 3)) (k : WX E nL G (mI M q j x) kc ks lv (st) (pc + 3)) : WX E nL G M kc ks lv (.int x :: .ref q :: st) (pc) := by
  intro ad H lo ls h1 h2 h3 h4
  refine va_put h.x h.b h.ts hin ty0 hty hnm h.own h.K h1.1 h1.2.1 h3 q (ws_obj hq hc) hcl j hj (h.ts _ hlink) hsame hfin hd hn hfit (by rw [fields_len, hnf]; exact hj) d (fun H1 lo1 g1 g2 g3 => ?_)
  rw [show cv ad (Value.int x) = Value.int x from rfl] at g1 g2
  rw [ws_putI hq hc hf] at g1 g2
  exact k ad H1 lo1 ls ⟨g1, g2, h1.2.2⟩ h2 g3 h4
theorem x_putL {E : EN} {cc : ByteArray} {nL : Nat} {own : String} {rm : Room} {G : GG} {M : MM} {kc ks : Nat} {lv : List (Nat × Value)} {st : List Value} {pc : Nat} {ref C : String} {T : u_T} {N index q c j : Nat} {x : Int64} {ty : FieldType} (h : CX E cc nL own rm) (hq : isK G q c) (hc : c < 100) (hcl : clT[c]? = some (C, T, N)) (hnf : nf c = N) (hj : j < N) (hf : fk c j = 1) (hin : ∀ w ∈ u_ws C T N, w ∈ lw_all) (ty0 : Nat → FieldType) (hty : ∀ k, k < N → parseFieldDescriptor (T k).2.2.1 = some (ty0 k)) (hnm : ∀ a, a < N → ∀ b, b < N → a ≠ b → (T a).2.1 ≠ (T b).2.1) (hlink : Cond.fieldLink own index ref (T j).2.1 (T j).2.2.1 ∈ lw_all) (hsame : ∀ x, E.s.fieldFound? (T j).1 (T j).2.1 (T j).2.2.1 = some x → E.s.fieldFound? ref (T j).2.1 (T j).2.2.1 = some x) (hfin : (T j).2.2.2 = false) (hd : parseFieldDescriptor (T j).2.2.1 = some ty) (hn : narrow ty (.long x) = .long x) (hfit : fits ty (.long x) = true) (d : decode cc pc = .ok (.putfield index, 3)) (k : WX E nL G (mL M q j x) kc ks lv (st) (pc + 3)) : WX E nL G M kc ks lv (.long x :: .ref q :: st) (pc) := by
  intro ad H lo ls h1 h2 h3 h4
  refine va_put h.x h.b h.ts hin ty0 hty hnm h.own h.K h1.1 h1.2.1 h3 q (ws_obj hq hc) hcl j hj (h.ts _ hlink) hsame hfin hd hn hfit (by rw [fields_len, hnf]; exact hj) d (fun H1 lo1 g1 g2 g3 => ?_)
  rw [show cv ad (Value.long x) = Value.long x from rfl] at g1 g2
  rw [ws_putL hq hc hf] at g1 g2
  exact k ad H1 lo1 ls ⟨g1, g2, h1.2.2⟩ h2 g3 h4
theorem x_putR {E : EN} {cc : ByteArray} {nL : Nat} {own : String} {rm : Room} {G : GG} {M : MM} {kc ks : Nat} {lv : List (Nat × Value)} {st : List Value} {pc : Nat} {ref C : String} {T : u_T} {N index q c j : Nat} {v : Value} {ty : FieldType} (h : CX E cc nL own rm) (hq : isK G q c) (hc : c < 100) (hcl : clT[c]? = some (C, T, N)) (hnf : nf c = N) (hj : j < N) (hf : fk c j = 2) (hin : ∀ w ∈ u_ws C T N, w ∈ lw_all) (ty0 : Nat → FieldType) (hty : ∀ k, k < N → parseFieldDescriptor (T k).2.2.1 = some (ty0 k)) (hnm : ∀ a, a < N → ∀ b, b < N → a ≠ b → (T a).2.1 ≠ (T b).2.1) (hlink : Cond.fieldLink own index ref (T j).2.1 (T j).2.2.1 ∈ lw_all) (hsame : ∀ x, E.s.fieldFound? (T j).1 (T j).2.1 (T j).2.2.1 = some x → E.s.fieldFound? ref (T j).2.1 (T j).2.2.1 = some x) (hfin : (T j).2.2.2 = false) (hd : parseFieldDescriptor (T j).2.2.1 = some ty) (hn : ∀ ad, narrow ty (cv ad v) = cv ad v) (hfit : ∀ ad, fits ty (cv ad v) = true) (hv : okv G.1 v) (hr : rfk v) (d : decode cc pc = .ok (.putfield index, 3)) (k : WX E nL (mR G q j v) M kc ks lv (st) (pc + 3)) : WX E nL G M kc ks lv (v :: .ref q :: st) (pc) := by
  intro ad H lo ls h1 h2 h3 h4
  refine va_put h.x h.b h.ts hin ty0 hty hnm h.own h.K h1.1 h1.2.1 h3 q (ws_obj hq hc) hcl j hj (h.ts _ hlink) hsame hfin hd (hn ad) (hfit ad) (by rw [fields_len, hnf]; exact hj) d (fun H1 lo1 g1 g2 g3 => ?_)
  rw [ws_putR hq hc hf] at g1 g2
  exact k ad H1 lo1 ls ⟨g1, g2, (okR hv hr h1.2.2)⟩ h2 g3 h4
theorem x_putIN {E : EN} {cc : ByteArray} {nL : Nat} {own : String} {rm : Room} {G : GG} {M : MM} {kc ks : Nat} {lv : List (Nat × Value)} {st : List Value} {pc : Nat} {ref C : String} {T : u_T} {N index q c j : Nat} {x : Int32} {ty : FieldType} (h : CX E cc nL own rm) (hq : isK G q c) (hc : c < 100) (hcl : clT[c]? = some (C, T, N)) (hnf : nf c = N) (hj : j < N) (hf : fk c j = 0) (hin : ∀ w ∈ u_ws C T N, w ∈ lw_all) (ty0 : Nat → FieldType) (hty : ∀ k, k < N → parseFieldDescriptor (T k).2.2.1 = some (ty0 k)) (hnm : ∀ a, a < N → ∀ b, b < N → a ≠ b → (T a).2.1 ≠ (T b).2.1) {host : String} (hlink : Cond.fieldLinkNest own index ref (T j).2.1 (T j).2.2.1 host ∈ xw) (hsame : ∀ x, E.s.fieldFound? (T j).1 (T j).2.1 (T j).2.2.1 = some x → E.s.fieldFound? ref (T j).2.1 (T j).2.2.1 = some x) (hfin : (T j).2.2.2 = false) (hd : parseFieldDescriptor (T j).2.2.1 = some ty) (hn : narrow ty (.int x) = .int x) (hfit : fits ty (.int x) = true) (d : decode cc pc = .ok (.putfield index, 3)) (k : WX E nL G (mI M q j x) kc ks lv (st) (pc + 3)) : WX E nL G M kc ks lv (.int x :: .ref q :: st) (pc) := by
  intro ad H lo ls h1 h2 h3 h4
  refine va_putN h.x h.b h.ts hin ty0 hty hnm h.own h.K h1.1 h1.2.1 h3 q (ws_obj hq hc) hcl j hj (va_Nw.use rfl (h.w hlink)) hsame hfin hd hn hfit (by rw [fields_len, hnf]; exact hj) d (fun H1 lo1 g1 g2 g3 => ?_)
  rw [show cv ad (Value.int x) = Value.int x from rfl] at g1 g2
  rw [ws_putI hq hc hf] at g1 g2
  exact k ad H1 lo1 ls ⟨g1, g2, h1.2.2⟩ h2 g3 h4
theorem x_putLN {E : EN} {cc : ByteArray} {nL : Nat} {own : String} {rm : Room} {G : GG} {M : MM} {kc ks : Nat} {lv : List (Nat × Value)} {st : List Value} {pc : Nat} {ref C : String} {T : u_T} {N index q c j : Nat} {x : Int64} {ty : FieldType} (h : CX E cc nL own rm) (hq : isK G q c) (hc : c < 100) (hcl : clT[c]? = some (C, T, N)) (hnf : nf c = N) (hj : j < N) (hf : fk c j = 1) (hin : ∀ w ∈ u_ws C T N, w ∈ lw_all) (ty0 : Nat → FieldType) (hty : ∀ k, k < N → parseFieldDescriptor (T k).2.2.1 = some (ty0 k)) (hnm : ∀ a, a < N → ∀ b, b < N → a ≠ b → (T a).2.1 ≠ (T b).2.1) {host : String} (hlink : Cond.fieldLinkNest own index ref (T j).2.1 (T j).2.2.1 host ∈ xw) (hsame : ∀ x, E.s.fieldFound? (T j).1 (T j).2.1 (T j).2.2.1 = some x → E.s.fieldFound? ref (T j).2.1 (T j).2.2.1 = some x) (hfin : (T j).2.2.2 = false) (hd : parseFieldDescriptor (T j).2.2.1 = some ty) (hn : narrow ty (.long x) = .long x) (hfit : fits ty (.long x) = true) (d : decode cc pc = .ok (.putfield index, 3)) (k : WX E nL G (mL M q j x) kc ks lv (st) (pc + 3)) : WX E nL G M kc ks lv (.long x :: .ref q :: st) (pc) := by
  intro ad H lo ls h1 h2 h3 h4
  refine va_putN h.x h.b h.ts hin ty0 hty hnm h.own h.K h1.1 h1.2.1 h3 q (ws_obj hq hc) hcl j hj (va_Nw.use rfl (h.w hlink)) hsame hfin hd hn hfit (by rw [fields_len, hnf]; exact hj) d (fun H1 lo1 g1 g2 g3 => ?_)
  rw [show cv ad (Value.long x) = Value.long x from rfl] at g1 g2
  rw [ws_putL hq hc hf] at g1 g2
  exact k ad H1 lo1 ls ⟨g1, g2, h1.2.2⟩ h2 g3 h4
theorem x_putRN {E : EN} {cc : ByteArray} {nL : Nat} {own : String} {rm : Room} {G : GG} {M : MM} {kc ks : Nat} {lv : List (Nat × Value)} {st : List Value} {pc : Nat} {ref C : String} {T : u_T} {N index q c j : Nat} {v : Value} {ty : FieldType} (h : CX E cc nL own rm) (hq : isK G q c) (hc : c < 100) (hcl : clT[c]? = some (C, T, N)) (hnf : nf c = N) (hj : j < N) (hf : fk c j = 2) (hin : ∀ w ∈ u_ws C T N, w ∈ lw_all) (ty0 : Nat → FieldType) (hty : ∀ k, k < N → parseFieldDescriptor (T k).2.2.1 = some (ty0 k)) (hnm : ∀ a, a < N → ∀ b, b < N → a ≠ b → (T a).2.1 ≠ (T b).2.1) {host : String} (hlink : Cond.fieldLinkNest own index ref (T j).2.1 (T j).2.2.1 host ∈ xw) (hsame : ∀ x, E.s.fieldFound? (T j).1 (T j).2.1 (T j).2.2.1 = some x → E.s.fieldFound? ref (T j).2.1 (T j).2.2.1 = some x) (hfin : (T j).2.2.2 = false) (hd : parseFieldDescriptor (T j).2.2.1 = some ty) (hn : ∀ ad, narrow ty (cv ad v) = cv ad v) (hfit : ∀ ad, fits ty (cv ad v) = true) (hv : okv G.1 v) (hr : rfk v) (d : decode cc pc = .ok (.putfield index, 3)) (k : WX E nL (mR G q j v) M kc ks lv (st) (pc + 3)) : WX E nL G M kc ks lv (v :: .ref q :: st) (pc) := by
  intro ad H lo ls h1 h2 h3 h4
  refine va_putN h.x h.b h.ts hin ty0 hty hnm h.own h.K h1.1 h1.2.1 h3 q (ws_obj hq hc) hcl j hj (va_Nw.use rfl (h.w hlink)) hsame hfin hd (hn ad) (hfit ad) (by rw [fields_len, hnf]; exact hj) d (fun H1 lo1 g1 g2 g3 => ?_)
  rw [ws_putR hq hc hf] at g1 g2
  exact k ad H1 lo1 ls ⟨g1, g2, (okR hv hr h1.2.2)⟩ h2 g3 h4
theorem x_putIF {E : EN} {cc : ByteArray} {nL : Nat} {own : String} {rm : Room} {G : GG} {M : MM} {kc ks : Nat} {lv : List (Nat × Value)} {st : List Value} {pc : Nat} {ref C : String} {T : u_T} {N index q c j : Nat} {x : Int32} {ty : FieldType} (h : CX E cc nL own rm) (hq : isK G q c) (hc : c < 100) (hcl : clT[c]? = some (C, T, N)) (hnf : nf c = N) (hj : j < N) (hf : fk c j = 0) (hin : ∀ w ∈ u_ws C T N, w ∈ lw_all) (ty0 : Nat → FieldType) (hty : ∀ k, k < N → parseFieldDescriptor (T k).2.2.1 = some (ty0 k)) (hnm : ∀ a, a < N → ∀ b, b < N → a ≠ b → (T a).2.1 ≠ (T b).2.1) (hlink : Cond.fieldLink own index ref (T j).2.1 (T j).2.2.1 ∈ lw_all) (hsame : ∀ x, E.s.fieldFound? (T j).1 (T j).2.1 (T j).2.2.1 = some x → E.s.fieldFound? ref (T j).2.1 (T j).2.2.1 = some x) (hfin : (T j).2.2.2 = true) (hini : E.meth.name = "<init>") (hdecl : (T j).1 = own) (hd : parseFieldDescriptor (T j).2.2.1 = some ty) (hn : narrow ty (.int x) = .int x) (hfit : fits ty (.int x) = true) (d : decode cc pc = .ok (.putfield index, 3)) (k : WX E nL G (mI M q j x) kc ks lv (st) (pc + 3)) : WX E nL G M kc ks lv (.int x :: .ref q :: st) (pc) := by
  intro ad H lo ls h1 h2 h3 h4
  refine va_putF h.x h.b h.ts hin ty0 hty hnm h.own h.K h1.1 h1.2.1 h3 q (ws_obj hq hc) hcl j hj (h.ts _ hlink) hsame hfin hini hdecl hd hn hfit (by rw [fields_len, hnf]; exact hj) d (fun H1 lo1 g1 g2 g3 => ?_)
  rw [show cv ad (Value.int x) = Value.int x from rfl] at g1 g2
  rw [ws_putI hq hc hf] at g1 g2
  exact k ad H1 lo1 ls ⟨g1, g2, h1.2.2⟩ h2 g3 h4
theorem x_putLF {E : EN} {cc : ByteArray} {nL : Nat} {own : String} {rm : Room} {G : GG} {M : MM} {kc ks : Nat} {lv : List (Nat × Value)} {st : List Value} {pc : Nat} {ref C : String} {T : u_T} {N index q c j : Nat} {x : Int64} {ty : FieldType} (h : CX E cc nL own rm) (hq : isK G q c) (hc : c < 100) (hcl : clT[c]? = some (C, T, N)) (hnf : nf c = N) (hj : j < N) (hf : fk c j = 1) (hin : ∀ w ∈ u_ws C T N, w ∈ lw_all) (ty0 : Nat → FieldType) (hty : ∀ k, k < N → parseFieldDescriptor (T k).2.2.1 = some (ty0 k)) (hnm : ∀ a, a < N → ∀ b, b < N → a ≠ b → (T a).2.1 ≠ (T b).2.1) (hlink : Cond.fieldLink own index ref (T j).2.1 (T j).2.2.1 ∈ lw_all) (hsame : ∀ x, E.s.fieldFound? (T j).1 (T j).2.1 (T j).2.2.1 = some x → E.s.fieldFound? ref (T j).2.1 (T j).2.2.1 = some x) (hfin : (T j).2.2.2 = true) (hini : E.meth.name = "<init>") (hdecl : (T j).1 = own) (hd : parseFieldDescriptor (T j).2.2.1 = some ty) (hn : narrow ty (.long x) = .long x) (hfit : fits ty (.long x) = true) (d : decode cc pc = .ok (.putfield index, 3)) (k : WX E nL G (mL M q j x) kc ks lv (st) (pc + 3)) : WX E nL G M kc ks lv (.long x :: .ref q :: st) (pc) := by
  intro ad H lo ls h1 h2 h3 h4
  refine va_putF h.x h.b h.ts hin ty0 hty hnm h.own h.K h1.1 h1.2.1 h3 q (ws_obj hq hc) hcl j hj (h.ts _ hlink) hsame hfin hini hdecl hd hn hfit (by rw [fields_len, hnf]; exact hj) d (fun H1 lo1 g1 g2 g3 => ?_)
  rw [show cv ad (Value.long x) = Value.long x from rfl] at g1 g2
  rw [ws_putL hq hc hf] at g1 g2
  exact k ad H1 lo1 ls ⟨g1, g2, h1.2.2⟩ h2 g3 h4
theorem x_putRF {E : EN} {cc : ByteArray} {nL : Nat} {own : String} {rm : Room} {G : GG} {M : MM} {kc ks : Nat} {lv : List (Nat × Value)} {st : List Value} {pc : Nat} {ref C : String} {T : u_T} {N index q c j : Nat} {v : Value} {ty : FieldType} (h : CX E cc nL own rm) (hq : isK G q c) (hc : c < 100) (hcl : clT[c]? = some (C, T, N)) (hnf : nf c = N) (hj : j < N) (hf : fk c j = 2) (hin : ∀ w ∈ u_ws C T N, w ∈ lw_all) (ty0 : Nat → FieldType) (hty : ∀ k, k < N → parseFieldDescriptor (T k).2.2.1 = some (ty0 k)) (hnm : ∀ a, a < N → ∀ b, b < N → a ≠ b → (T a).2.1 ≠ (T b).2.1) (hlink : Cond.fieldLink own index ref (T j).2.1 (T j).2.2.1 ∈ lw_all) (hsame : ∀ x, E.s.fieldFound? (T j).1 (T j).2.1 (T j).2.2.1 = some x → E.s.fieldFound? ref (T j).2.1 (T j).2.2.1 = some x) (hfin : (T j).2.2.2 = true) (hini : E.meth.name = "<init>") (hdecl : (T j).1 = own) (hd : parseFieldDescriptor (T j).2.2.1 = some ty) (hn : ∀ ad, narrow ty (cv ad v) = cv ad v) (hfit : ∀ ad, fits ty (cv ad v) = true) (hv : okv G.1 v) (hr : rfk v) (d : decode cc pc = .ok (.putfield index, 3)) (k : WX E nL (mR G q j v) M kc ks lv (st) (pc + 3)) : WX E nL G M kc ks lv (v :: .ref q :: st) (pc) := by
  intro ad H lo ls h1 h2 h3 h4
  refine va_putF h.x h.b h.ts hin ty0 hty hnm h.own h.K h1.1 h1.2.1 h3 q (ws_obj hq hc) hcl j hj (h.ts _ hlink) hsame hfin hini hdecl hd (hn ad) (hfit ad) (by rw [fields_len, hnf]; exact hj) d (fun H1 lo1 g1 g2 g3 => ?_)
  rw [ws_putR hq hc hf] at g1 g2
  exact k ad H1 lo1 ls ⟨g1, g2, (okR hv hr h1.2.2)⟩ h2 g3 h4
theorem x_iald {E : EN} {cc : ByteArray} {nL : Nat} {own : String} {rm : Room} {G : GG} {M : MM} {kc ks : Nat} {lv : List (Nat × Value)} {st : List Value} {pc : Nat} {q : Nat} {i : Int32} (h : CX E cc nL own rm) (hq : isK G q 100) (hi : vp_in i (G.2.2.1 q)) (d : decode cc pc = .ok (.iaload, 1)) (k : WX E nL G M kc ks lv (.int (M.1 q i.toNatClampNeg) :: st) (pc + 1)) : WX E nL G M kc ks lv (.int i :: .ref q :: st) (pc) := fun ad H lo ls h1 h2 h3 h4 => va_iald h.x h.b h.K h1.1 q 0 (ws_arrI hq (by decide) (by decide)) rfl hi d (k ad H lo ls h1 h2 h3 h4)
theorem x_bald {E : EN} {cc : ByteArray} {nL : Nat} {own : String} {rm : Room} {G : GG} {M : MM} {kc ks : Nat} {lv : List (Nat × Value)} {st : List Value} {pc : Nat} {q : Nat} {i : Int32} (h : CX E cc nL own rm) (hq : isK G q 101) (hi : vp_in i (G.2.2.1 q)) (d : decode cc pc = .ok (.baload, 1)) (k : WX E nL G M kc ks lv (.int (M.1 q i.toNatClampNeg) :: st) (pc + 1)) : WX E nL G M kc ks lv (.int i :: .ref q :: st) (pc) := fun ad H lo ls h1 h2 h3 h4 => va_bald h.x h.b h.K h1.1 q 1 (ws_arrI hq (by decide) (by decide)) rfl hi d (k ad H lo ls h1 h2 h3 h4)
theorem x_zald {E : EN} {cc : ByteArray} {nL : Nat} {own : String} {rm : Room} {G : GG} {M : MM} {kc ks : Nat} {lv : List (Nat × Value)} {st : List Value} {pc : Nat} {q : Nat} {i : Int32} (h : CX E cc nL own rm) (hq : isK G q 102) (hi : vp_in i (G.2.2.1 q)) (d : decode cc pc = .ok (.baload, 1)) (k : WX E nL G M kc ks lv (.int (M.1 q i.toNatClampNeg) :: st) (pc + 1)) : WX E nL G M kc ks lv (.int i :: .ref q :: st) (pc) := fun ad H lo ls h1 h2 h3 h4 => va_zald h.x h.b h.K h1.1 q 2 (ws_arrI hq (by decide) (by decide)) rfl hi d (k ad H lo ls h1 h2 h3 h4)
theorem x_sald {E : EN} {cc : ByteArray} {nL : Nat} {own : String} {rm : Room} {G : GG} {M : MM} {kc ks : Nat} {lv : List (Nat × Value)} {st : List Value} {pc : Nat} {q : Nat} {i : Int32} (h : CX E cc nL own rm) (hq : isK G q 103) (hi : vp_in i (G.2.2.1 q)) (d : decode cc pc = .ok (.saload, 1)) (k : WX E nL G M kc ks lv (.int (M.1 q i.toNatClampNeg) :: st) (pc + 1)) : WX E nL G M kc ks lv (.int i :: .ref q :: st) (pc) := fun ad H lo ls h1 h2 h3 h4 => va_sald h.x h.b h.K h1.1 q 3 (ws_arrI hq (by decide) (by decide)) rfl hi d (k ad H lo ls h1 h2 h3 h4)
theorem x_lald {E : EN} {cc : ByteArray} {nL : Nat} {own : String} {rm : Room} {G : GG} {M : MM} {kc ks : Nat} {lv : List (Nat × Value)} {st : List Value} {pc : Nat} {q : Nat} {i : Int32} (h : CX E cc nL own rm) (hq : isK G q 104) (hi : vp_in i (G.2.2.1 q)) (d : decode cc pc = .ok (.laload, 1)) (k : WX E nL G M kc ks lv (.long (M.2 q i.toNatClampNeg) :: st) (pc + 1)) : WX E nL G M kc ks lv (.int i :: .ref q :: st) (pc) := fun ad H lo ls h1 h2 h3 h4 => va_lald h.x h.b h.K h1.1 q 4 (ws_arrL hq) rfl hi d (k ad H lo ls h1 h2 h3 h4)
theorem x_aald {E : EN} {cc : ByteArray} {nL : Nat} {own : String} {rm : Room} {G : GG} {M : MM} {kc ks : Nat} {lv : List (Nat × Value)} {st : List Value} {pc : Nat} {q c : Nat} {C : String} {i : Int32} (h : CX E cc nL own rm) (hq : isK G q c) (hc1 : ¬ c < 105) (hc2 : c < 113) (hC : tyN c = .object C) (hi : vp_in i (G.2.2.1 q)) (d : decode cc pc = .ok (.aaload, 1)) (k : WX E nL G M kc ks lv (G.2.2.2 q i.toNatClampNeg :: st) (pc + 1)) : WX E nL G M kc ks lv (.int i :: .ref q :: st) (pc) := by
  intro ad H lo ls h1 h2 h3 h4
  have kk := k ad H lo ls h1 h2 h3 h4
  rw [List.map_cons, ← cv_rfo (h1.2.2 q hq.1 _).2] at kk
  exact va_aldq h.x h.b h.K h1.1 q (c - 100) (ws_arrR hq hc1) (by rw [tys_at (by omega) hc2, hC]) hi d kk
theorem x_alen {E : EN} {cc : ByteArray} {nL : Nat} {own : String} {rm : Room} {G : GG} {M : MM} {kc ks : Nat} {lv : List (Nat × Value)} {st : List Value} {pc : Nat} {q c : Nat} (h : CX E cc nL own rm) (hq : isK G q c) (hc1 : ¬ c < 100) (hc2 : c < 113) (d : decode cc pc = .ok (.arraylength, 1)) (k : WX E nL G M kc ks lv (.int (Int32.ofNat (G.2.2.1 q)) :: st) (pc + 1)) : WX E nL G M kc ks lv (.ref q :: st) (pc) := by
  intro ad H lo ls h1 h2 h3 h4
  obtain ⟨a, ha, hw⟩ := ws_arr (X := E.X) (ad := ad) (M := M) hq hc1
  exact va_alen h.x h.b h.K h1.1 q (c - 100) hw (tys_at hc1 hc2) (by rw [ha]) d (k ad H lo ls h1 h2 h3 h4)
theorem x_iast {E : EN} {cc : ByteArray} {nL : Nat} {own : String} {rm : Room} {G : GG} {M : MM} {kc ks : Nat} {lv : List (Nat × Value)} {st : List Value} {pc : Nat} {q : Nat} {i x : Int32} (h : CX E cc nL own rm) (hq : isK G q 100) (hi : vp_in i (G.2.2.1 q)) (d : decode cc pc = .ok (.iastore, 1)) (k : WX E nL G (mI M q i.toNatClampNeg (x)) kc ks lv (st) (pc + 1)) : WX E nL G M kc ks lv (.int x :: .int i :: .ref q :: st) (pc) := by
  intro ad H lo ls h1 h2 h3 h4
  refine va_iast h.x h.b h.K h1.1 h1.2.1 h3 q 0 (ws_arrI hq (by decide) (by decide)) rfl hi d (fun H1 lo1 g1 g2 g3 => ?_)
  rw [ws_astI hq (by decide) (by decide)] at g1 g2
  exact k ad H1 lo1 ls ⟨g1, g2, h1.2.2⟩ h2 g3 h4
theorem x_bast {E : EN} {cc : ByteArray} {nL : Nat} {own : String} {rm : Room} {G : GG} {M : MM} {kc ks : Nat} {lv : List (Nat × Value)} {st : List Value} {pc : Nat} {q : Nat} {i x : Int32} (h : CX E cc nL own rm) (hq : isK G q 101) (hi : vp_in i (G.2.2.1 q)) (d : decode cc pc = .ok (.bastore, 1)) (k : WX E nL G (mI M q i.toNatClampNeg (vp_nar .byte x)) kc ks lv (st) (pc + 1)) : WX E nL G M kc ks lv (.int x :: .int i :: .ref q :: st) (pc) := by
  intro ad H lo ls h1 h2 h3 h4
  refine va_bast h.x h.b h.K h1.1 h1.2.1 h3 q 1 (ws_arrI hq (by decide) (by decide)) rfl hi d (fun H1 lo1 g1 g2 g3 => ?_)
  rw [ws_astI hq (by decide) (by decide)] at g1 g2
  exact k ad H1 lo1 ls ⟨g1, g2, h1.2.2⟩ h2 g3 h4
theorem x_zast {E : EN} {cc : ByteArray} {nL : Nat} {own : String} {rm : Room} {G : GG} {M : MM} {kc ks : Nat} {lv : List (Nat × Value)} {st : List Value} {pc : Nat} {q : Nat} {i x : Int32} (h : CX E cc nL own rm) (hq : isK G q 102) (hi : vp_in i (G.2.2.1 q)) (d : decode cc pc = .ok (.bastore, 1)) (k : WX E nL G (mI M q i.toNatClampNeg (vp_nar .boolean x)) kc ks lv (st) (pc + 1)) : WX E nL G M kc ks lv (.int x :: .int i :: .ref q :: st) (pc) := by
  intro ad H lo ls h1 h2 h3 h4
  refine va_zast h.x h.b h.K h1.1 h1.2.1 h3 q 2 (ws_arrI hq (by decide) (by decide)) rfl hi d (fun H1 lo1 g1 g2 g3 => ?_)
  rw [ws_astI hq (by decide) (by decide)] at g1 g2
  exact k ad H1 lo1 ls ⟨g1, g2, h1.2.2⟩ h2 g3 h4
theorem x_sast {E : EN} {cc : ByteArray} {nL : Nat} {own : String} {rm : Room} {G : GG} {M : MM} {kc ks : Nat} {lv : List (Nat × Value)} {st : List Value} {pc : Nat} {q : Nat} {i x : Int32} (h : CX E cc nL own rm) (hq : isK G q 103) (hi : vp_in i (G.2.2.1 q)) (d : decode cc pc = .ok (.sastore, 1)) (k : WX E nL G (mI M q i.toNatClampNeg (vp_nar .short x)) kc ks lv (st) (pc + 1)) : WX E nL G M kc ks lv (.int x :: .int i :: .ref q :: st) (pc) := by
  intro ad H lo ls h1 h2 h3 h4
  refine va_sast h.x h.b h.K h1.1 h1.2.1 h3 q 3 (ws_arrI hq (by decide) (by decide)) rfl hi d (fun H1 lo1 g1 g2 g3 => ?_)
  rw [ws_astI hq (by decide) (by decide)] at g1 g2
  exact k ad H1 lo1 ls ⟨g1, g2, h1.2.2⟩ h2 g3 h4
theorem x_last {E : EN} {cc : ByteArray} {nL : Nat} {own : String} {rm : Room} {G : GG} {M : MM} {kc ks : Nat} {lv : List (Nat × Value)} {st : List Value} {pc : Nat} {q : Nat} {i : Int32} {x : Int64} (h : CX E cc nL own rm) (hq : isK G q 104) (hi : vp_in i (G.2.2.1 q)) (d : decode cc pc = .ok (.lastore, 1)) (k : WX E nL G (mL M q i.toNatClampNeg x) kc ks lv (st) (pc + 1)) : WX E nL G M kc ks lv (.long x :: .int i :: .ref q :: st) (pc) := by
  intro ad H lo ls h1 h2 h3 h4
  refine va_last h.x h.b h.K h1.1 h1.2.1 h3 q 4 (ws_arrL hq) rfl hi d (fun H1 lo1 g1 g2 g3 => ?_)
  rw [ws_astL hq] at g1 g2
  exact k ad H1 lo1 ls ⟨g1, g2, h1.2.2⟩ h2 g3 h4
theorem x_aast {E : EN} {cc : ByteArray} {nL : Nat} {own : String} {rm : Room} {G : GG} {M : MM} {kc ks : Nat} {lv : List (Nat × Value)} {st : List Value} {pc : Nat} {q c v ci : Nat} {C : String} {T : u_T} {N : Nat} {i : Int32} (h : CX E cc nL own rm) (hq : isK G q c) (hc1 : ¬ c < 105) (hc2 : c < 113) (hC : tyN c = .object C) (hv : isK G v ci) (hci : ci < 100) (hcl : clT[ci]? = some (C, T, N)) (hi : vp_in i (G.2.2.1 q)) (d : decode cc pc = .ok (.aastore, 1)) (k : WX E nL (mR G q i.toNatClampNeg (.ref v)) M kc ks lv (st) (pc + 1)) : WX E nL G M kc ks lv (.ref v :: .int i :: .ref q :: st) (pc) := by
  intro ad H lo ls h1 h2 h3 h4
  refine va_astq h.x h.b h.K h1.1 h1.2.1 h3 q (c - 100) v ci (ws_arrR hq hc1) (by rw [tys_at (by omega) hc2, hC]) (ws_obj hv hci) hcl hi d (fun H1 lo1 g1 g2 g3 => ?_)
  rw [show some (ad v) = rfo ad (.ref v) from rfl, ws_astR hq hc1] at g1 g2
  exact k ad H1 lo1 ls ⟨g1, g2, okR hv.1 trivial h1.2.2⟩ h2 g3 h4
theorem x_aastO {E : EN} {cc : ByteArray} {nL : Nat} {own : String} {rm : Room} {G : GG} {M : MM} {kc ks : Nat} {lv : List (Nat × Value)} {st : List Value} {pc : Nat} {q c v ci : Nat} {C C1 : String} {T : u_T} {N : Nat} {i : Int32} (h : CX E cc nL own rm) (hq : isK G q c) (hc1 : ¬ c < 105) (hc2 : c < 113) (hC : tyN c = .object C) (hv : isK G v ci) (hci : ci < 100) (hcl : clT[ci]? = some (C1, T, N)) (hca : Cond.castable C1 C ∈ xw) (hi : vp_in i (G.2.2.1 q)) (d : decode cc pc = .ok (.aastore, 1)) (k : WX E nL (mR G q i.toNatClampNeg (.ref v)) M kc ks lv (st) (pc + 1)) : WX E nL G M kc ks lv (.ref v :: .int i :: .ref q :: st) (pc) := by
  intro ad H lo ls h1 h2 h3 h4
  refine va_astqO h.x h.b h.K h1.1 h1.2.1 h3 q (c - 100) v ci (ws_arrR hq hc1) (by rw [tys_at (by omega) hc2, hC]) (h.w hca) (ws_obj hv hci) hcl hi d (fun H1 lo1 g1 g2 g3 => ?_)
  rw [show some (ad v) = rfo ad (.ref v) from rfl, ws_astR hq hc1] at g1 g2
  exact k ad H1 lo1 ls ⟨g1, g2, okR hv.1 trivial h1.2.2⟩ h2 g3 h4
theorem x_copy {E : EN} {cc : ByteArray} {nL : Nat} {own : String} {rm : Room} {G : GG} {M : MM} {kc ks : Nat} {lv : List (Nat × Value)} {st : List Value} {pc : Nat} {q0 q1 c index : Nat} {sp dp n : Int32} (h : CX E cc nL own rm) (hq0 : isK G q0 c) (hq1 : isK G q1 c) (hc1 : ¬ c < 100) (hc2 : c < 104) (hlink : Cond.methodLink own index arraycopyName ∈ lw_all) (hnat : Cond.native arraycopyName ∈ lw_all) (hstat : Cond.static arraycopyName ∈ lw_all) (hini : Cond.initialized "java/lang/System" ∈ lw_all) (hb1 : ¬ sp < 0) (hb2 : ¬ dp < 0) (hb3 : ¬ n < 0) (hb4 : sp.toNatClampNeg + n.toNatClampNeg ≤ G.2.2.1 q0) (hb5 : dp.toNatClampNeg + n.toNatClampNeg ≤ G.2.2.1 q1) (hfit : ∀ i, i < n.toNatClampNeg → fits (tyN c) (.int (M.1 q0 (sp.toNatClampNeg + i))) = true) (hR : 1 ≤ rm.frames ∧ (st.map fun v => v.category).sum + (nativeFrameWords "java/lang/System" "arraycopy" 5 + 11) ≤ rm.locals) (d : decode cc pc = .ok (.invokestatic index, 3)) (k : WX E nL G (mC M q0 sp.toNatClampNeg q1 dp.toNatClampNeg n.toNatClampNeg) kc ks lv (st) (pc + 3)) : WX E nL G M kc ks lv (.int n :: .int dp :: .ref q1 :: .int sp :: .ref q0 :: st) (pc) := by
  intro ad H lo ls h1 h2 h3 h4
  have hR' := h.R
  have hty : refKind (tyN c) = false := by
    rcases (show c = 100 ∨ c = 101 ∨ c = 102 ∨ c = 103 by omega) with rfl | rfl | rfl | rfl <;> rfl
  refine va_copyi h.x h.b (by rw [h.ml]; exact h4.1.symm) h.own (h.ts _ hlink) (h.ts _ hnat) (h.ts _ hstat) (h.ts _ hini) h.K h1.1 h1.2.1 h3 q0 q1 (c - 100) (c - 100) (ws_arrI hq0 hc1 hc2) (ws_arrI hq1 hc1 hc2) (tys_at hc1 (by omega)) (tys_at hc1 (by omega)) hty hb1 hb2 hb3 hb4 hb5 hfit (by rw [hR']; exact hR.1) (by rw [hR', catmap]; exact hR.2) d (fun H1 lo1 g1 g2 g3 => ?_)
  rw [ws_cpy hq1 hc1 hc2] at g1 g2
  exact k ad H1 lo1 ls ⟨g1, g2, h1.2.2⟩ h2 g3 h4
theorem x_mmax {E : EN} {cc : ByteArray} {nL : Nat} {own : String} {rm : Room} {G : GG} {M : MM} {kc ks : Nat} {lv : List (Nat × Value)} {st : List Value} {pc : Nat} {x y : Int32} {index : Nat} (h : CX E cc nL own rm) (hlink : Cond.methodLink own index Lib.Math.max.name ∈ lw_all) (hstat : Cond.static Lib.Math.max.name ∈ lw_all) (hini : Cond.initialized "java/lang/Math" ∈ lw_all) (hcode : Cond.code Lib.Math.max.name Lib.Math.max.code 2 (some .int) ∈ lw_all) (hR : 1 ≤ rm.frames ∧ (st.map fun v => v.category).sum + 13 ≤ rm.locals ∧ kc ≤ rm.cells ∧ ks ≤ rm.slots) (d : decode cc pc = .ok (.invokestatic index, 3)) (k : WX E nL G M kc ks lv (.int (if x < y then y else x) :: st) (pc + 3)) : WX E nL G M kc ks lv (.int y :: .int x :: st) (pc) := by
  intro ad H lo ls h1 h2 h3 h4
  have hR' := h.R
  exact va_mmax h.x h.b (by rw [h.ml]; exact h4.1.symm) h.own (h.ts _ hlink) (h.ts _ hstat) (h.ts _ hini) (h.ts _ hcode) (by rw [hR']; exact hR.1) (by rw [hR', catmap]; exact hR.2.1) (by rw [hR']; exact hR.2.2.1) (by rw [hR']; exact hR.2.2.2) d (k ad H lo ls h1 h2 h3 h4)
theorem x_mmin {E : EN} {cc : ByteArray} {nL : Nat} {own : String} {rm : Room} {G : GG} {M : MM} {kc ks : Nat} {lv : List (Nat × Value)} {st : List Value} {pc : Nat} {x y : Int32} {index : Nat} (h : CX E cc nL own rm) (hlink : Cond.methodLink own index Lib.Math.min.name ∈ lw_all) (hstat : Cond.static Lib.Math.min.name ∈ lw_all) (hini : Cond.initialized "java/lang/Math" ∈ lw_all) (hcode : Cond.code Lib.Math.min.name Lib.Math.min.code 2 (some .int) ∈ lw_all) (hR : 1 ≤ rm.frames ∧ (st.map fun v => v.category).sum + 13 ≤ rm.locals ∧ kc ≤ rm.cells ∧ ks ≤ rm.slots) (d : decode cc pc = .ok (.invokestatic index, 3)) (k : WX E nL G M kc ks lv (.int (if y < x then y else x) :: st) (pc + 3)) : WX E nL G M kc ks lv (.int y :: .int x :: st) (pc) := by
  intro ad H lo ls h1 h2 h3 h4
  have hR' := h.R
  exact va_mmin h.x h.b (by rw [h.ml]; exact h4.1.symm) h.own (h.ts _ hlink) (h.ts _ hstat) (h.ts _ hini) (h.ts _ hcode) (by rw [hR']; exact hR.1) (by rw [hR', catmap]; exact hR.2.1) (by rw [hR']; exact hR.2.2.1) (by rw [hR']; exact hR.2.2.2) d (k ad H lo ls h1 h2 h3 h4)
theorem x_mmaxl {E : EN} {cc : ByteArray} {nL : Nat} {own : String} {rm : Room} {G : GG} {M : MM} {kc ks : Nat} {lv : List (Nat × Value)} {st : List Value} {pc : Nat} {x y : Int64} {index : Nat} (h : CX E cc nL own rm) (hlink : Cond.methodLink own index Lib.MathLoose.max_long.x ∈ lw_all) (hstat : Cond.static Lib.MathLoose.max_long.x ∈ lw_all) (hini : Cond.initialized "java/lang/Math" ∈ lw_all) (hcode : Cond.code Lib.MathLoose.max_long.x Lib.MathLoose.max_long.code 4 (some .long) ∈ lw_all) (hR : 1 ≤ rm.frames ∧ (st.map fun v => v.category).sum + 15 ≤ rm.locals ∧ kc ≤ rm.cells ∧ ks ≤ rm.slots) (d : decode cc pc = .ok (.invokestatic index, 3)) (k : WX E nL G M kc ks lv (.long (if y < x then x else y) :: st) (pc + 3)) : WX E nL G M kc ks lv (.long y :: .long x :: st) (pc) := by
  intro ad H lo ls h1 h2 h3 h4
  have hR' := h.R
  exact va_mmax_long h.x h.b (by rw [h.ml]; exact h4.1.symm) h.own (h.ts _ hlink) (h.ts _ hstat) (h.ts _ hini) (h.ts _ hcode) (by rw [hR']; exact hR.1) (by rw [hR', catmap]; exact hR.2.1) (by rw [hR']; exact hR.2.2.1) (by rw [hR']; exact hR.2.2.2) d (k ad H lo ls h1 h2 h3 h4)
theorem x_mabsl {E : EN} {cc : ByteArray} {nL : Nat} {own : String} {rm : Room} {G : GG} {M : MM} {kc ks : Nat} {lv : List (Nat × Value)} {st : List Value} {pc : Nat} {x : Int64} {index : Nat} (h : CX E cc nL own rm) (hlink : Cond.methodLink own index Lib.MathLoose.abs_long.x ∈ lw_all) (hstat : Cond.static Lib.MathLoose.abs_long.x ∈ lw_all) (hini : Cond.initialized "java/lang/Math" ∈ lw_all) (hcode : Cond.code Lib.MathLoose.abs_long.x Lib.MathLoose.abs_long.code 2 (some .long) ∈ lw_all) (hR : 1 ≤ rm.frames ∧ (st.map fun v => v.category).sum + 13 ≤ rm.locals ∧ kc ≤ rm.cells ∧ ks ≤ rm.slots) (d : decode cc pc = .ok (.invokestatic index, 3)) (k : WX E nL G M kc ks lv (.long (if 0 < x then x else -x) :: st) (pc + 3)) : WX E nL G M kc ks lv (.long x :: st) (pc) := by
  intro ad H lo ls h1 h2 h3 h4
  have hR' := h.R
  exact va_mabs_long h.x h.b (by rw [h.ml]; exact h4.1.symm) h.own (h.ts _ hlink) (h.ts _ hstat) (h.ts _ hini) (h.ts _ hcode) (by rw [hR']; exact hR.1) (by rw [hR', catmap]; exact hR.2.1) (by rw [hR']; exact hR.2.2.1) (by rw [hR']; exact hR.2.2.2) d (k ad H lo ls h1 h2 h3 h4)
/-! CONTRACTS AND CALLS over the index heap -/
def WA (ad : Nat → Nat) (N sz : Nat) : Nat → Prop := fun q => (∃ k, k < N ∧ ad k = q) ∨ sz ≤ q
theorem World.weak {X : XE} {A A' : Nat → Prop} {ad : Nat → Nat} {G : GG} {M : MM} {H : Heap} (h : World X A ad G M H) (hA : ∀ q, A q → A' q) : World X A' ad G M H := ⟨h.1, h.2.1.weaken (fun k q _ hq => hA _ hq), h.2.2⟩
theorem ws_in {X : XE} {ad : Nat → Nat} {G : GG} {M : MM} {k : Nat} {q : Nat × va_E} (h : (wsW X ad G M)[k]? = some q) : k < G.1 ∧ q = (ad k, cellA X ad G M k) := by
  have hk : k < G.1 := by
    have := (List.getElem?_eq_some_iff.mp h).1
    rwa [ws_len] at this
  exact ⟨hk, Option.some.inj (h.symm.trans (ws_at hk))⟩
theorem World.self {X : XE} {A : Nat → Prop} {ad : Nat → Nat} {G : GG} {M : MM} {H : Heap} {sz : Nat} (h : World X A ad G M H) : World X (WA ad G.1 sz) ad G M H := by
  refine ⟨h.1, ⟨h.2.1.1, fun k q hk => ?_⟩, h.2.2⟩
  obtain ⟨h1, rfl⟩ := ws_in hk
  exact Or.inl ⟨k, h1, rfl⟩
theorem World.in {X : XE} {A : Nat → Prop} {ad : Nat → Nat} {G : GG} {M : MM} {H : Heap} (h : World X A ad G M H) {k : Nat} (hk : k < G.1) : A (ad k) := h.2.1.2 k _ (ws_at hk)
theorem cv_ext {N : Nat} {ad ad' : Nat → Nat} (h : ∀ k, k < N → ad' k = ad k) {v : Value} (hv : okv N v) : cv ad' v = cv ad v := by
  cases v <;> try rfl
  case ref k => exact congrArg Value.ref (h k hv)
theorem rfo_ext {N : Nat} {ad ad' : Nat → Nat} (h : ∀ k, k < N → ad' k = ad k) {v : Value} (hv : okv N v) : rfo ad' v = rfo ad v := by
  cases v <;> try rfl
  case ref k => exact congrArg some (h k hv)
theorem cellA_ext {X : XE} {ad ad' : Nat → Nat} {G : GG} {M : MM} (h : ∀ k, k < G.1 → ad' k = ad k) {k : Nat} (hr : ∀ j, okv G.1 (G.2.2.2 k j)) : cellA X ad' G M k = cellA X ad G M k := by
  have e1 : fields ad' (G.2.1 k) (G.2.2.2 k) (M.1 k) (M.2 k) = fields ad (G.2.1 k) (G.2.2.2 k) (M.1 k) (M.2 k) := by
    unfold fields
    apply List.map_congr_left
    intro j _
    unfold fval
    split <;> first | rfl | exact cv_ext h (hr j)
  have e2 : (fun j => rfo ad' (G.2.2.2 k j)) = (fun j => rfo ad (G.2.2.2 k j)) := by funext j; exact rfo_ext h (hr j)
  unfold cellA cellK
  rw [e1, e2]
theorem World.ext {X : XE} {A : Nat → Prop} {ad ad' : Nat → Nat} {G : GG} {M : MM} {H : Heap} (h : World X A ad G M H) (he : ∀ k, k < G.1 → ad' k = ad k) : World X A ad' G M H := by
  have e : wsW X ad' G M = wsW X ad G M := by
    unfold wsW
    apply List.map_congr_left
    intro k hk
    have hk' := List.mem_range.mp hk
    rw [he k hk', cellA_ext he (fun j => (h.2.2 k hk' j).1)]
  exact ⟨by rw [e]; exact h.1, by rw [e]; exact h.2.1, h.2.2⟩
theorem lva (ad : Nat → Nat) : ∀ (i : Nat) (as : List Value), lv_args i (as.map (cv ad)) = (lv_args i as).map (cl_ ad)
  | _, [] => rfl
  | i, v :: vs => by
    show (i, cv ad v) :: lv_args (if (cv ad v).category = 2 then i + 2 else i + 1) (vs.map (cv ad)) = (i, cv ad v) :: (lv_args (if v.category = 2 then i + 2 else i + 1) vs).map (cl_ ad)
    rw [cv_cat, lva ad _ vs]
theorem lgl (ad : Nat → Nat) : ∀ (as : List Value), (lg_sl (as.map (cv ad))).length = (lg_sl as).length
  | [] => rfl
  | v :: vs => by
    have h := lgl ad vs
    simp only [lg_sl, List.map_cons, List.flatMap_cons, List.length_append] at h ⊢
    rw [h, cv_cat]
    congr 1
    split <;> rfl
def PCX (X : XE) (ad : Nat → Nat) (sz : Nat) (G : GG) (M : MM) (as : List Value) (w : Prop) : Array Value → State → Prop :=
  va_Pc (as.map (cv ad)) (fun U => U.heap.size = sz ∧ World X (fun _ => True) ad G M U.heap ∧ BX X (WA ad G.1 sz) U U.heap ∧ (∀ v ∈ as, okv G.1 v) ∧ w)
theorem PCX_blind {X : XE} {ad : Nat → Nat} {sz : Nat} {G : GG} {M : MM} {as : List Value} {w : Prop} : FrameBlind (PCX X ad sz G M as w) := by
  intro a U g mk q
  obtain ⟨q0, q1, q2, q3, q4⟩ := q
  exact ⟨q0, q1, q2, q3.same rfl, q4⟩
theorem free_of {E : EN} {cc : ByteArray} {nL : Nat} {own : String} {rm : Room} {G : GG} {M : MM} {ad : Nat → Nat} {H : Heap} {lo : List Loc} (h : CX E cc nL own rm) (h1 : World E.X E.A ad G M H) (h3 : va_S E.A E.s.heap H lo) : ∀ q, WA ad G.1 H.size q → E.A q := by
  intro q hq
  rcases hq with ⟨k, hk, rfl⟩ | hq
  · exact h1.in hk
  · exact h.A q (Nat.le_trans h3.1 hq)
theorem pre_of {E : EN} {cc : ByteArray} {nL : Nat} {own : String} {rm : Room} {G : GG} {M : MM} {ad : Nat → Nat} {H : Heap} {lo : List Loc} {as : List Value} {w : Prop} (h : CX E cc nL own rm) (h1 : World E.X E.A ad G M H) (h3 : va_S E.A E.s.heap H lo) (hok : ∀ v ∈ as, okv G.1 v) (hw : w) : ∀ U : State, U.heap = H → E.s.WarmedH U.vm → PCX E.X ad H.size G M as w (as.map (cv ad)).toArray U := by
  intro U hU hW
  refine ⟨rfl, by rw [hU], by rw [hU]; exact h1.weak (fun _ _ => trivial), ?_, hok, hw⟩
  rw [hU]
  exact h.B.warm h3 hW (free_of h h1 h3)
theorem rcv_of {E : EN} {cc : ByteArray} {nL : Nat} {own : String} {rm : Room} {G : GG} {M : MM} {ad : Nat → Nat} {H : Heap} {q ci : Nat} {C : String} {T : u_T} {N : Nat} (h : CX E cc nL own rm) (h1 : World E.X E.A ad G M H) (hq : isK G q ci) (hci : ci < 100) (hcl : clT[ci]? = some (C, T, N)) : ∃ cell : Cell, H[ad q]? = some cell ∧ cell.vm.isStatics = false ∧ E.s.vm.findClass C = some cell.cls :=
  va_recv h.K h1.1 hcl (ws_obj hq hci)
def QCi (X : XE) (ad : Nat → Nat) (sz : Nat) (G : GG) (post : Int32 → MM → Prop) : Array Value → State → Outcome → State → Prop := va_Qi (fun (r : Int32) (u : MM) => post r u) (fun M' t => World X (WA ad G.1 sz) ad G M' t.heap) (WA ad G.1 sz)
def MCi (l : Launch) (X : XE) (y : MethodName) (ws : List Cond) (rm : Room) (as : List Value) (G : GG) (M : MM) (wp : (Int32 → MM → Prop) → Prop) : Prop := ∀ (ad : Nat → Nat) (sz : Nat) (post : Int32 → MM → Prop), Met l y ws rm (PCX X ad sz G M as (wp post)) (QCi X ad sz G post) 0 0 (WA ad G.1 sz)
def RIi (E : EN) (cc : ByteArray) (nL : Nat) (G : GG) (post : Int32 → MM → Prop) : Prop := ∀ (r : Int32) (M : MM) (pc : Nat) (lv : List (Nat × Value)), post r M → decode cc pc = .ok (.ireturn, 1) → WX E nL G M 0 0 lv [.int r] pc
theorem mk_i {l : Launch} {y : MethodName} {cc : ByteArray} {nL : Nat} {rm : Room} {as : List Value} {G : GG} {M : MM} {wp : (Int32 → MM → Prop) → Prop} {X : XE} (hl : l.stackTraces = false) (hy : plainName y.cls = true) (hn : (lg_sl as).length ≤ nL)
    (body : ∀ (E : EN) (post : Int32 → MM → Prop), CX E cc nL y.cls rm → E.l = l → E.X = X → RIi E cc nL G post → wp post → WX E nL G M 0 0 (lv_args 0 as) [] 0) : MCi l X y (ws_ y cc nL (some .int)) rm as G M wp := by
  intro ad sz post
  refine Met.ofW (cc := cc) (maxL := nL) (ret := some .int) hy rfl ?_
  intro p e s m args below meth c s₁ B hml hv
  obtain ⟨rfl, hsz, hW, hB, hok, hw⟩ := hv
  subst hsz
  have hts := atoms_spec (ws := ws_ y cc nL (some .int)) B.pre
  have key := body (p, l, e, _, s, m, _, below, meth, c, X, WA ad G.1 s.heap.size, ad, G, MQ below (QCi X ad s.heap.size G post) (as.map (cv ad)).toArray s 0 0 (WA ad G.1 s.heap.size)) post ⟨B.exec, B.bytes, hml, findClass_of_methodNamed B.named, fun w h => hts w (List.mem_cons_of_mem _ h), rfl, hB, fun q h => Or.inr h, B.notSynchronized, hl⟩ rfl rfl ?_ hw
  · have hl2 := lv_entry (as.map (cv ad)) (n := nL) (by rw [lgl]; exact hn)
    rw [lg_entry_eq]
    rw [lva] at hl2
    exact key ad s.heap [] _ hW.self ⟨Nat.le_refl _, fun k _ => ⟨rfl, rfl, rfl⟩⟩ va_S.rf hl2
  · intro r M' pc lv hp d ad' H lo ls h1 h2 h3 h4
    exact W.iret (v := r) B.exec B.bytes B.returns (fun t ht hW => ⟨⟨r, M', rfl, hp, by dsimp only; rw [ht]; exact h1.ext (fun k hk => (h2.2 k hk).1.symm)⟩, h3.F ht⟩) h3.2.2 d B.notSynchronized
theorem x_callVi {E : EN} {cc : ByteArray} {nL : Nat} {own : String} {rm : Room} {G : GG} {M : MM} {kc ks : Nat} {lv : List (Nat × Value)} {st : List Value} {pc : Nat} {y : MethodName} {bytes : ByteArray} {maxL index : Nat} {rm' : Room} {as stk : List Value} {wp : (Int32 → MM → Prop) → Prop} {post : Int32 → MM → Prop} {q ci : Nat} {C : String} {T : u_T} {N : Nat} (n : Nat) (h : CX E cc nL own rm) (hM : MCi E.l E.X y (ws_ y bytes maxL (some .int)) rm' (.ref q :: as) G M wp) (hw : wp post) (hG : GoodIn lw_all (wsV own index C y (ws_ y bytes maxL (some .int)))) (hd : y.cls = C ∧ y.cls ≠ "java/lang/invoke/MethodHandle" ∧ y.cls ≠ "java/lang/invoke/VarHandle" ∧ (parseMethodDescriptor y.desc).map (fun d => d.parameters.length) = some n) (hR : rm'.frames + 1 ≤ rm.frames ∧ 8 + (maxL + 11) + rm'.locals ≤ rm.locals) (hz : rm'.cells = 0 ∧ rm'.slots = 0 ∧ kc ≤ rm.cells ∧ ks ≤ rm.slots) (hq : isK G q ci) (hci : ci < 100) (hcl : clT[ci]? = some (C, T, N)) (hok : ∀ v ∈ as, okv G.1 v) (hn : as.length = n) (hst : stk = as.reverse ++ .ref q :: st) (hcat : (st.map fun v => v.category).sum ≤ 8) (d : decode cc pc = .ok (.invokevirtual index, 3)) (k : ∀ (r : Int32) (M' : MM), post r M' → WX E nL G M' kc ks lv (.int r :: st) (pc + 3)) : WX E nL G M kc ks lv stk pc := by
  subst hst
  intro ad H lo ls h1 h2 h3 h4
  have hok : ∀ v ∈ Value.ref q :: as, okv G.1 v := by
    intro v hv
    rcases List.mem_cons.mp hv with rfl | hv
    · exact hq.1
    · exact hok v hv
  have hRm := h.R
  have hFc := free_of h h1 h3
  have hMM := hM ad H.size post
  have hst2 : (as.reverse ++ .ref q :: st).map (cv ad) = (as.map (cv ad)).reverse ++ .ref (ad q) :: (st.map (cv ad)) := by
    simp [cv]
  rw [hst2]
  refine va_calli (va_runV (As := as.map (cv ad)) (rest := st.map (cv ad)) ⟨h.x, h.b, h.ml, h.own, h.ts⟩ hMM (cwV n h.ts hG rfl hz.1 hz.2.1 hd (by rw [hRm]; exact hR)) ⟨PCX_blind, rcv_of h h1 hq hci hcl, pre_of h h1 h3 hok hw⟩ rfl (by rw [List.length_map]; exact hn) h4.1 rfl (lv_room (by rw [catmap]; exact hcat)) d ⟨by rw [hRm]; exact hz.2.2.1, by rw [hRm]; exact hz.2.2.2⟩) h3 (fun q _ hh => hFc q hh) hFc (fun r u t H1 lo1 ht hvm hp hB hz1 hk1 hS => ?_)
  have hB : World E.X E.A ad G u H1 := by rw [← ht]; exact hB.weak hFc
  exact k r u hp ad H1 lo1 ls hB h2 hS h4
theorem x_callSi {E : EN} {cc : ByteArray} {nL : Nat} {own : String} {rm : Room} {G : GG} {M : MM} {kc ks : Nat} {lv : List (Nat × Value)} {st : List Value} {pc : Nat} {y : MethodName} {bytes : ByteArray} {maxL index : Nat} {rm' : Room} {as stk : List Value} {wp : (Int32 → MM → Prop) → Prop} {post : Int32 → MM → Prop} (n : Nat) (h : CX E cc nL own rm) (hM : MCi E.l E.X y (ws_ y bytes maxL (some .int)) rm' as G M wp) (hw : wp post) (hG : GoodIn lw_all (va_wsS own index y (ws_ y bytes maxL (some .int)))) (hd : y.cls ≠ "java/lang/invoke/MethodHandle" ∧ y.cls ≠ "java/lang/invoke/VarHandle" ∧ (parseMethodDescriptor y.desc).map (fun d => d.parameters.length) = some n) (hR : rm'.frames + 1 ≤ rm.frames ∧ 8 + (maxL + 11) + rm'.locals ≤ rm.locals) (hz : rm'.cells = 0 ∧ rm'.slots = 0 ∧ kc ≤ rm.cells ∧ ks ≤ rm.slots) (hok : ∀ v ∈ as, okv G.1 v) (hn : as.length = n) (hst : stk = as.reverse ++ st) (hcat : (st.map fun v => v.category).sum ≤ 8) (d : decode cc pc = .ok (.invokestatic index, 3)) (k : ∀ (r : Int32) (M' : MM), post r M' → WX E nL G M' kc ks lv (.int r :: st) (pc + 3)) : WX E nL G M kc ks lv stk pc := by
  subst hst
  intro ad H lo ls h1 h2 h3 h4
  have hRm := h.R
  have hFc := free_of h h1 h3
  have hMM := hM ad H.size post
  have hst2 : (as.reverse ++ st).map (cv ad) = (as.map (cv ad)).reverse ++ (st.map (cv ad)) := by
    simp [cv]
  rw [hst2]
  refine va_calli (va_runS (As := as.map (cv ad)) (rest := st.map (cv ad)) ⟨h.x, h.b, h.ml, h.own, h.ts⟩ hMM (va_cwS n h.ts hG rfl hz.1 hz.2.1 hd (by rw [hRm]; exact hR)) ⟨PCX_blind, pre_of h h1 h3 hok hw⟩ rfl (by rw [List.length_map]; exact hn) h4.1 rfl (lv_room (by rw [catmap]; exact hcat)) d ⟨by rw [hRm]; exact hz.2.2.1, by rw [hRm]; exact hz.2.2.2⟩) h3 (fun q _ hh => hFc q hh) hFc (fun r u t H1 lo1 ht hvm hp hB hz1 hk1 hS => ?_)
  have hB : World E.X E.A ad G u H1 := by rw [← ht]; exact hB.weak hFc
  exact k r u hp ad H1 lo1 ls hB h2 hS h4
def QCz (X : XE) (ad : Nat → Nat) (sz : Nat) (G : GG) (post : Int32 → MM → Prop) : Array Value → State → Outcome → State → Prop := va_Qi (fun (r : Int32) (u : MM) => post r u) (fun M' t => World X (WA ad G.1 sz) ad G M' t.heap) (WA ad G.1 sz)
def MCz (l : Launch) (X : XE) (y : MethodName) (ws : List Cond) (rm : Room) (as : List Value) (G : GG) (M : MM) (wp : (Int32 → MM → Prop) → Prop) : Prop := ∀ (ad : Nat → Nat) (sz : Nat) (post : Int32 → MM → Prop), Met l y ws rm (PCX X ad sz G M as (wp post)) (QCz X ad sz G post) 0 0 (WA ad G.1 sz)
def RIz (E : EN) (cc : ByteArray) (nL : Nat) (G : GG) (post : Int32 → MM → Prop) : Prop := ∀ (r : Int32) (M : MM) (pc : Nat) (lv : List (Nat × Value)), post r M → narrow .boolean (.int r) = .int r → decode cc pc = .ok (.ireturn, 1) → WX E nL G M 0 0 lv [.int r] pc
theorem mk_z {l : Launch} {y : MethodName} {cc : ByteArray} {nL : Nat} {rm : Room} {as : List Value} {G : GG} {M : MM} {wp : (Int32 → MM → Prop) → Prop} {X : XE} (hl : l.stackTraces = false) (hy : plainName y.cls = true) (hn : (lg_sl as).length ≤ nL)
    (body : ∀ (E : EN) (post : Int32 → MM → Prop), CX E cc nL y.cls rm → E.l = l → E.X = X → RIz E cc nL G post → wp post → WX E nL G M 0 0 (lv_args 0 as) [] 0) : MCz l X y (ws_ y cc nL (some .boolean)) rm as G M wp := by
  intro ad sz post
  refine Met.ofW (cc := cc) (maxL := nL) (ret := some .boolean) hy rfl ?_
  intro p e s m args below meth c s₁ B hml hv
  obtain ⟨rfl, hsz, hW, hB, hok, hw⟩ := hv
  subst hsz
  have hts := atoms_spec (ws := ws_ y cc nL (some .boolean)) B.pre
  have key := body (p, l, e, _, s, m, _, below, meth, c, X, WA ad G.1 s.heap.size, ad, G, MQ below (QCz X ad s.heap.size G post) (as.map (cv ad)).toArray s 0 0 (WA ad G.1 s.heap.size)) post ⟨B.exec, B.bytes, hml, findClass_of_methodNamed B.named, fun w h => hts w (List.mem_cons_of_mem _ h), rfl, hB, fun q h => Or.inr h, B.notSynchronized, hl⟩ rfl rfl ?_ hw
  · have hl2 := lv_entry (as.map (cv ad)) (n := nL) (by rw [lgl]; exact hn)
    rw [lg_entry_eq]
    rw [lva] at hl2
    exact key ad s.heap [] _ hW.self ⟨Nat.le_refl _, fun k _ => ⟨rfl, rfl, rfl⟩⟩ va_S.rf hl2
  · intro r M' pc lv hp hn d ad' H lo ls h1 h2 h3 h4
    exact W.zret (v := r) B.exec B.bytes B.returns hn (fun t ht hW => ⟨⟨r, M', rfl, hp, by dsimp only; rw [ht]; exact h1.ext (fun k hk => (h2.2 k hk).1.symm)⟩, h3.F ht⟩) h3.2.2 d B.notSynchronized
theorem x_callVz {E : EN} {cc : ByteArray} {nL : Nat} {own : String} {rm : Room} {G : GG} {M : MM} {kc ks : Nat} {lv : List (Nat × Value)} {st : List Value} {pc : Nat} {y : MethodName} {bytes : ByteArray} {maxL index : Nat} {rm' : Room} {as stk : List Value} {wp : (Int32 → MM → Prop) → Prop} {post : Int32 → MM → Prop} {q ci : Nat} {C : String} {T : u_T} {N : Nat} (n : Nat) (h : CX E cc nL own rm) (hM : MCz E.l E.X y (ws_ y bytes maxL (some .boolean)) rm' (.ref q :: as) G M wp) (hw : wp post) (hG : GoodIn lw_all (wsV own index C y (ws_ y bytes maxL (some .boolean)))) (hd : y.cls = C ∧ y.cls ≠ "java/lang/invoke/MethodHandle" ∧ y.cls ≠ "java/lang/invoke/VarHandle" ∧ (parseMethodDescriptor y.desc).map (fun d => d.parameters.length) = some n) (hR : rm'.frames + 1 ≤ rm.frames ∧ 8 + (maxL + 11) + rm'.locals ≤ rm.locals) (hz : rm'.cells = 0 ∧ rm'.slots = 0 ∧ kc ≤ rm.cells ∧ ks ≤ rm.slots) (hq : isK G q ci) (hci : ci < 100) (hcl : clT[ci]? = some (C, T, N)) (hok : ∀ v ∈ as, okv G.1 v) (hn : as.length = n) (hst : stk = as.reverse ++ .ref q :: st) (hcat : (st.map fun v => v.category).sum ≤ 8) (d : decode cc pc = .ok (.invokevirtual index, 3)) (k : ∀ (r : Int32) (M' : MM), post r M' → WX E nL G M' kc ks lv (.int r :: st) (pc + 3)) : WX E nL G M kc ks lv stk pc := by
  subst hst
  intro ad H lo ls h1 h2 h3 h4
  have hok : ∀ v ∈ Value.ref q :: as, okv G.1 v := by
    intro v hv
    rcases List.mem_cons.mp hv with rfl | hv
    · exact hq.1
    · exact hok v hv
  have hRm := h.R
  have hFc := free_of h h1 h3
  have hMM := hM ad H.size post
  have hst2 : (as.reverse ++ .ref q :: st).map (cv ad) = (as.map (cv ad)).reverse ++ .ref (ad q) :: (st.map (cv ad)) := by
    simp [cv]
  rw [hst2]
  refine va_calli (va_runV (As := as.map (cv ad)) (rest := st.map (cv ad)) ⟨h.x, h.b, h.ml, h.own, h.ts⟩ hMM (cwV n h.ts hG rfl hz.1 hz.2.1 hd (by rw [hRm]; exact hR)) ⟨PCX_blind, rcv_of h h1 hq hci hcl, pre_of h h1 h3 hok hw⟩ rfl (by rw [List.length_map]; exact hn) h4.1 rfl (lv_room (by rw [catmap]; exact hcat)) d ⟨by rw [hRm]; exact hz.2.2.1, by rw [hRm]; exact hz.2.2.2⟩) h3 (fun q _ hh => hFc q hh) hFc (fun r u t H1 lo1 ht hvm hp hB hz1 hk1 hS => ?_)
  have hB : World E.X E.A ad G u H1 := by rw [← ht]; exact hB.weak hFc
  exact k r u hp ad H1 lo1 ls hB h2 hS h4
theorem x_callSz {E : EN} {cc : ByteArray} {nL : Nat} {own : String} {rm : Room} {G : GG} {M : MM} {kc ks : Nat} {lv : List (Nat × Value)} {st : List Value} {pc : Nat} {y : MethodName} {bytes : ByteArray} {maxL index : Nat} {rm' : Room} {as stk : List Value} {wp : (Int32 → MM → Prop) → Prop} {post : Int32 → MM → Prop} (n : Nat) (h : CX E cc nL own rm) (hM : MCz E.l E.X y (ws_ y bytes maxL (some .boolean)) rm' as G M wp) (hw : wp post) (hG : GoodIn lw_all (va_wsS own index y (ws_ y bytes maxL (some .boolean)))) (hd : y.cls ≠ "java/lang/invoke/MethodHandle" ∧ y.cls ≠ "java/lang/invoke/VarHandle" ∧ (parseMethodDescriptor y.desc).map (fun d => d.parameters.length) = some n) (hR : rm'.frames + 1 ≤ rm.frames ∧ 8 + (maxL + 11) + rm'.locals ≤ rm.locals) (hz : rm'.cells = 0 ∧ rm'.slots = 0 ∧ kc ≤ rm.cells ∧ ks ≤ rm.slots) (hok : ∀ v ∈ as, okv G.1 v) (hn : as.length = n) (hst : stk = as.reverse ++ st) (hcat : (st.map fun v => v.category).sum ≤ 8) (d : decode cc pc = .ok (.invokestatic index, 3)) (k : ∀ (r : Int32) (M' : MM), post r M' → WX E nL G M' kc ks lv (.int r :: st) (pc + 3)) : WX E nL G M kc ks lv stk pc := by
  subst hst
  intro ad H lo ls h1 h2 h3 h4
  have hRm := h.R
  have hFc := free_of h h1 h3
  have hMM := hM ad H.size post
  have hst2 : (as.reverse ++ st).map (cv ad) = (as.map (cv ad)).reverse ++ (st.map (cv ad)) := by
    simp [cv]
  rw [hst2]
  refine va_calli (va_runS (As := as.map (cv ad)) (rest := st.map (cv ad)) ⟨h.x, h.b, h.ml, h.own, h.ts⟩ hMM (va_cwS n h.ts hG rfl hz.1 hz.2.1 hd (by rw [hRm]; exact hR)) ⟨PCX_blind, pre_of h h1 h3 hok hw⟩ rfl (by rw [List.length_map]; exact hn) h4.1 rfl (lv_room (by rw [catmap]; exact hcat)) d ⟨by rw [hRm]; exact hz.2.2.1, by rw [hRm]; exact hz.2.2.2⟩) h3 (fun q _ hh => hFc q hh) hFc (fun r u t H1 lo1 ht hvm hp hB hz1 hk1 hS => ?_)
  have hB : World E.X E.A ad G u H1 := by rw [← ht]; exact hB.weak hFc
  exact k r u hp ad H1 lo1 ls hB h2 hS h4
def QCl (X : XE) (ad : Nat → Nat) (sz : Nat) (G : GG) (post : Int64 → MM → Prop) : Array Value → State → Outcome → State → Prop := va_Ql (fun (r : Int64) (u : MM) => post r u) (fun M' t => World X (WA ad G.1 sz) ad G M' t.heap) (WA ad G.1 sz)
def MCl (l : Launch) (X : XE) (y : MethodName) (ws : List Cond) (rm : Room) (as : List Value) (G : GG) (M : MM) (wp : (Int64 → MM → Prop) → Prop) : Prop := ∀ (ad : Nat → Nat) (sz : Nat) (post : Int64 → MM → Prop), Met l y ws rm (PCX X ad sz G M as (wp post)) (QCl X ad sz G post) 0 0 (WA ad G.1 sz)
def RIl (E : EN) (cc : ByteArray) (nL : Nat) (G : GG) (post : Int64 → MM → Prop) : Prop := ∀ (r : Int64) (M : MM) (pc : Nat) (lv : List (Nat × Value)), post r M → decode cc pc = .ok (.lreturn, 1) → WX E nL G M 0 0 lv [.long r] pc
theorem mk_l {l : Launch} {y : MethodName} {cc : ByteArray} {nL : Nat} {rm : Room} {as : List Value} {G : GG} {M : MM} {wp : (Int64 → MM → Prop) → Prop} {X : XE} (hl : l.stackTraces = false) (hy : plainName y.cls = true) (hn : (lg_sl as).length ≤ nL)
    (body : ∀ (E : EN) (post : Int64 → MM → Prop), CX E cc nL y.cls rm → E.l = l → E.X = X → RIl E cc nL G post → wp post → WX E nL G M 0 0 (lv_args 0 as) [] 0) : MCl l X y (ws_ y cc nL (some .long)) rm as G M wp := by
  intro ad sz post
  refine Met.ofW (cc := cc) (maxL := nL) (ret := some .long) hy rfl ?_
  intro p e s m args below meth c s₁ B hml hv
  obtain ⟨rfl, hsz, hW, hB, hok, hw⟩ := hv
  subst hsz
  have hts := atoms_spec (ws := ws_ y cc nL (some .long)) B.pre
  have key := body (p, l, e, _, s, m, _, below, meth, c, X, WA ad G.1 s.heap.size, ad, G, MQ below (QCl X ad s.heap.size G post) (as.map (cv ad)).toArray s 0 0 (WA ad G.1 s.heap.size)) post ⟨B.exec, B.bytes, hml, findClass_of_methodNamed B.named, fun w h => hts w (List.mem_cons_of_mem _ h), rfl, hB, fun q h => Or.inr h, B.notSynchronized, hl⟩ rfl rfl ?_ hw
  · have hl2 := lv_entry (as.map (cv ad)) (n := nL) (by rw [lgl]; exact hn)
    rw [lg_entry_eq]
    rw [lva] at hl2
    exact key ad s.heap [] _ hW.self ⟨Nat.le_refl _, fun k _ => ⟨rfl, rfl, rfl⟩⟩ va_S.rf hl2
  · intro r M' pc lv hp d ad' H lo ls h1 h2 h3 h4
    exact W.lret (v := r) B.exec B.bytes B.returns (fun t ht hW => ⟨⟨r, M', rfl, hp, by dsimp only; rw [ht]; exact h1.ext (fun k hk => (h2.2 k hk).1.symm)⟩, h3.F ht⟩) h3.2.2 d B.notSynchronized
theorem x_callVl {E : EN} {cc : ByteArray} {nL : Nat} {own : String} {rm : Room} {G : GG} {M : MM} {kc ks : Nat} {lv : List (Nat × Value)} {st : List Value} {pc : Nat} {y : MethodName} {bytes : ByteArray} {maxL index : Nat} {rm' : Room} {as stk : List Value} {wp : (Int64 → MM → Prop) → Prop} {post : Int64 → MM → Prop} {q ci : Nat} {C : String} {T : u_T} {N : Nat} (n : Nat) (h : CX E cc nL own rm) (hM : MCl E.l E.X y (ws_ y bytes maxL (some .long)) rm' (.ref q :: as) G M wp) (hw : wp post) (hG : GoodIn lw_all (wsV own index C y (ws_ y bytes maxL (some .long)))) (hd : y.cls = C ∧ y.cls ≠ "java/lang/invoke/MethodHandle" ∧ y.cls ≠ "java/lang/invoke/VarHandle" ∧ (parseMethodDescriptor y.desc).map (fun d => d.parameters.length) = some n) (hR : rm'.frames + 1 ≤ rm.frames ∧ 8 + (maxL + 11) + rm'.locals ≤ rm.locals) (hz : rm'.cells = 0 ∧ rm'.slots = 0 ∧ kc ≤ rm.cells ∧ ks ≤ rm.slots) (hq : isK G q ci) (hci : ci < 100) (hcl : clT[ci]? = some (C, T, N)) (hok : ∀ v ∈ as, okv G.1 v) (hn : as.length = n) (hst : stk = as.reverse ++ .ref q :: st) (hcat : (st.map fun v => v.category).sum ≤ 8) (d : decode cc pc = .ok (.invokevirtual index, 3)) (k : ∀ (r : Int64) (M' : MM), post r M' → WX E nL G M' kc ks lv (.long r :: st) (pc + 3)) : WX E nL G M kc ks lv stk pc := by
  subst hst
  intro ad H lo ls h1 h2 h3 h4
  have hok : ∀ v ∈ Value.ref q :: as, okv G.1 v := by
    intro v hv
    rcases List.mem_cons.mp hv with rfl | hv
    · exact hq.1
    · exact hok v hv
  have hRm := h.R
  have hFc := free_of h h1 h3
  have hMM := hM ad H.size post
  have hst2 : (as.reverse ++ .ref q :: st).map (cv ad) = (as.map (cv ad)).reverse ++ .ref (ad q) :: (st.map (cv ad)) := by
    simp [cv]
  rw [hst2]
  refine va_calll (va_runV (As := as.map (cv ad)) (rest := st.map (cv ad)) ⟨h.x, h.b, h.ml, h.own, h.ts⟩ hMM (cwV n h.ts hG rfl hz.1 hz.2.1 hd (by rw [hRm]; exact hR)) ⟨PCX_blind, rcv_of h h1 hq hci hcl, pre_of h h1 h3 hok hw⟩ rfl (by rw [List.length_map]; exact hn) h4.1 rfl (lv_room (by rw [catmap]; exact hcat)) d ⟨by rw [hRm]; exact hz.2.2.1, by rw [hRm]; exact hz.2.2.2⟩) h3 (fun q _ hh => hFc q hh) hFc (fun r u t H1 lo1 ht hvm hp hB hz1 hk1 hS => ?_)
  have hB : World E.X E.A ad G u H1 := by rw [← ht]; exact hB.weak hFc
  exact k r u hp ad H1 lo1 ls hB h2 hS h4
theorem x_callSl {E : EN} {cc : ByteArray} {nL : Nat} {own : String} {rm : Room} {G : GG} {M : MM} {kc ks : Nat} {lv : List (Nat × Value)} {st : List Value} {pc : Nat} {y : MethodName} {bytes : ByteArray} {maxL index : Nat} {rm' : Room} {as stk : List Value} {wp : (Int64 → MM → Prop) → Prop} {post : Int64 → MM → Prop} (n : Nat) (h : CX E cc nL own rm) (hM : MCl E.l E.X y (ws_ y bytes maxL (some .long)) rm' as G M wp) (hw : wp post) (hG : GoodIn lw_all (va_wsS own index y (ws_ y bytes maxL (some .long)))) (hd : y.cls ≠ "java/lang/invoke/MethodHandle" ∧ y.cls ≠ "java/lang/invoke/VarHandle" ∧ (parseMethodDescriptor y.desc).map (fun d => d.parameters.length) = some n) (hR : rm'.frames + 1 ≤ rm.frames ∧ 8 + (maxL + 11) + rm'.locals ≤ rm.locals) (hz : rm'.cells = 0 ∧ rm'.slots = 0 ∧ kc ≤ rm.cells ∧ ks ≤ rm.slots) (hok : ∀ v ∈ as, okv G.1 v) (hn : as.length = n) (hst : stk = as.reverse ++ st) (hcat : (st.map fun v => v.category).sum ≤ 8) (d : decode cc pc = .ok (.invokestatic index, 3)) (k : ∀ (r : Int64) (M' : MM), post r M' → WX E nL G M' kc ks lv (.long r :: st) (pc + 3)) : WX E nL G M kc ks lv stk pc := by
  subst hst
  intro ad H lo ls h1 h2 h3 h4
  have hRm := h.R
  have hFc := free_of h h1 h3
  have hMM := hM ad H.size post
  have hst2 : (as.reverse ++ st).map (cv ad) = (as.map (cv ad)).reverse ++ (st.map (cv ad)) := by
    simp [cv]
  rw [hst2]
  refine va_calll (va_runS (As := as.map (cv ad)) (rest := st.map (cv ad)) ⟨h.x, h.b, h.ml, h.own, h.ts⟩ hMM (va_cwS n h.ts hG rfl hz.1 hz.2.1 hd (by rw [hRm]; exact hR)) ⟨PCX_blind, pre_of h h1 h3 hok hw⟩ rfl (by rw [List.length_map]; exact hn) h4.1 rfl (lv_room (by rw [catmap]; exact hcat)) d ⟨by rw [hRm]; exact hz.2.2.1, by rw [hRm]; exact hz.2.2.2⟩) h3 (fun q _ hh => hFc q hh) hFc (fun r u t H1 lo1 ht hvm hp hB hz1 hk1 hS => ?_)
  have hB : World E.X E.A ad G u H1 := by rw [← ht]; exact hB.weak hFc
  exact k r u hp ad H1 lo1 ls hB h2 hS h4
def QCv (X : XE) (ad : Nat → Nat) (sz : Nat) (G : GG) (post : MM → Prop) : Array Value → State → Outcome → State → Prop := va_Qv (fun (u : MM) => post u) (fun M' t => World X (WA ad G.1 sz) ad G M' t.heap) (WA ad G.1 sz)
def MCv (l : Launch) (X : XE) (y : MethodName) (ws : List Cond) (rm : Room) (as : List Value) (G : GG) (M : MM) (wp : (MM → Prop) → Prop) : Prop := ∀ (ad : Nat → Nat) (sz : Nat) (post : MM → Prop), Met l y ws rm (PCX X ad sz G M as (wp post)) (QCv X ad sz G post) 0 0 (WA ad G.1 sz)
def RIv (E : EN) (cc : ByteArray) (nL : Nat) (G : GG) (post : MM → Prop) : Prop := ∀ (M : MM) (pc : Nat) (lv : List (Nat × Value)), post M → decode cc pc = .ok (.return_, 1) → WX E nL G M 0 0 lv [] pc
theorem mk_v {l : Launch} {y : MethodName} {cc : ByteArray} {nL : Nat} {rm : Room} {as : List Value} {G : GG} {M : MM} {wp : (MM → Prop) → Prop} {X : XE} (hl : l.stackTraces = false) (hy : plainName y.cls = true) (hn : (lg_sl as).length ≤ nL)
    (body : ∀ (E : EN) (post : MM → Prop), CX E cc nL y.cls rm → E.l = l → E.X = X → RIv E cc nL G post → wp post → WX E nL G M 0 0 (lv_args 0 as) [] 0) : MCv l X y (ws_ y cc nL (none)) rm as G M wp := by
  intro ad sz post
  refine Met.ofW (cc := cc) (maxL := nL) (ret := none) hy rfl ?_
  intro p e s m args below meth c s₁ B hml hv
  obtain ⟨rfl, hsz, hW, hB, hok, hw⟩ := hv
  subst hsz
  have hts := atoms_spec (ws := ws_ y cc nL (none)) B.pre
  have key := body (p, l, e, _, s, m, _, below, meth, c, X, WA ad G.1 s.heap.size, ad, G, MQ below (QCv X ad s.heap.size G post) (as.map (cv ad)).toArray s 0 0 (WA ad G.1 s.heap.size)) post ⟨B.exec, B.bytes, hml, findClass_of_methodNamed B.named, fun w h => hts w (List.mem_cons_of_mem _ h), rfl, hB, fun q h => Or.inr h, B.notSynchronized, hl⟩ rfl rfl ?_ hw
  · have hl2 := lv_entry (as.map (cv ad)) (n := nL) (by rw [lgl]; exact hn)
    rw [lg_entry_eq]
    rw [lva] at hl2
    exact key ad s.heap [] _ hW.self ⟨Nat.le_refl _, fun k _ => ⟨rfl, rfl, rfl⟩⟩ va_S.rf hl2
  · intro M' pc lv hp d ad' H lo ls h1 h2 h3 h4
    exact W.vret B.exec B.bytes B.returns (fun t ht hW => ⟨⟨M', rfl, hp, by dsimp only; rw [ht]; exact h1.ext (fun k hk => (h2.2 k hk).1.symm)⟩, h3.F ht⟩) h3.2.2 d B.notSynchronized
theorem x_callVv {E : EN} {cc : ByteArray} {nL : Nat} {own : String} {rm : Room} {G : GG} {M : MM} {kc ks : Nat} {lv : List (Nat × Value)} {st : List Value} {pc : Nat} {y : MethodName} {bytes : ByteArray} {maxL index : Nat} {rm' : Room} {as stk : List Value} {wp : (MM → Prop) → Prop} {post : MM → Prop} {q ci : Nat} {C : String} {T : u_T} {N : Nat} (n : Nat) (h : CX E cc nL own rm) (hM : MCv E.l E.X y (ws_ y bytes maxL (none)) rm' (.ref q :: as) G M wp) (hw : wp post) (hG : GoodIn lw_all (wsV own index C y (ws_ y bytes maxL (none)))) (hd : y.cls = C ∧ y.cls ≠ "java/lang/invoke/MethodHandle" ∧ y.cls ≠ "java/lang/invoke/VarHandle" ∧ (parseMethodDescriptor y.desc).map (fun d => d.parameters.length) = some n) (hR : rm'.frames + 1 ≤ rm.frames ∧ 8 + (maxL + 11) + rm'.locals ≤ rm.locals) (hz : rm'.cells = 0 ∧ rm'.slots = 0 ∧ kc ≤ rm.cells ∧ ks ≤ rm.slots) (hq : isK G q ci) (hci : ci < 100) (hcl : clT[ci]? = some (C, T, N)) (hok : ∀ v ∈ as, okv G.1 v) (hn : as.length = n) (hst : stk = as.reverse ++ .ref q :: st) (hcat : (st.map fun v => v.category).sum ≤ 8) (d : decode cc pc = .ok (.invokevirtual index, 3)) (k : ∀ (M' : MM), post M' → WX E nL G M' kc ks lv (st) (pc + 3)) : WX E nL G M kc ks lv stk pc := by
  subst hst
  intro ad H lo ls h1 h2 h3 h4
  have hok : ∀ v ∈ Value.ref q :: as, okv G.1 v := by
    intro v hv
    rcases List.mem_cons.mp hv with rfl | hv
    · exact hq.1
    · exact hok v hv
  have hRm := h.R
  have hFc := free_of h h1 h3
  have hMM := hM ad H.size post
  have hst2 : (as.reverse ++ .ref q :: st).map (cv ad) = (as.map (cv ad)).reverse ++ .ref (ad q) :: (st.map (cv ad)) := by
    simp [cv]
  rw [hst2]
  refine va_callv (va_runV (As := as.map (cv ad)) (rest := st.map (cv ad)) ⟨h.x, h.b, h.ml, h.own, h.ts⟩ hMM (cwV n h.ts hG rfl hz.1 hz.2.1 hd (by rw [hRm]; exact hR)) ⟨PCX_blind, rcv_of h h1 hq hci hcl, pre_of h h1 h3 hok hw⟩ rfl (by rw [List.length_map]; exact hn) h4.1 rfl (lv_room (by rw [catmap]; exact hcat)) d ⟨by rw [hRm]; exact hz.2.2.1, by rw [hRm]; exact hz.2.2.2⟩) h3 (fun q _ hh => hFc q hh) hFc (fun u t H1 lo1 ht hvm hp hB hz1 hk1 hS => ?_)
  have hB : World E.X E.A ad G u H1 := by rw [← ht]; exact hB.weak hFc
  exact k u hp ad H1 lo1 ls hB h2 hS h4
theorem x_callSv {E : EN} {cc : ByteArray} {nL : Nat} {own : String} {rm : Room} {G : GG} {M : MM} {kc ks : Nat} {lv : List (Nat × Value)} {st : List Value} {pc : Nat} {y : MethodName} {bytes : ByteArray} {maxL index : Nat} {rm' : Room} {as stk : List Value} {wp : (MM → Prop) → Prop} {post : MM → Prop} (n : Nat) (h : CX E cc nL own rm) (hM : MCv E.l E.X y (ws_ y bytes maxL (none)) rm' as G M wp) (hw : wp post) (hG : GoodIn lw_all (va_wsS own index y (ws_ y bytes maxL (none)))) (hd : y.cls ≠ "java/lang/invoke/MethodHandle" ∧ y.cls ≠ "java/lang/invoke/VarHandle" ∧ (parseMethodDescriptor y.desc).map (fun d => d.parameters.length) = some n) (hR : rm'.frames + 1 ≤ rm.frames ∧ 8 + (maxL + 11) + rm'.locals ≤ rm.locals) (hz : rm'.cells = 0 ∧ rm'.slots = 0 ∧ kc ≤ rm.cells ∧ ks ≤ rm.slots) (hok : ∀ v ∈ as, okv G.1 v) (hn : as.length = n) (hst : stk = as.reverse ++ st) (hcat : (st.map fun v => v.category).sum ≤ 8) (d : decode cc pc = .ok (.invokestatic index, 3)) (k : ∀ (M' : MM), post M' → WX E nL G M' kc ks lv (st) (pc + 3)) : WX E nL G M kc ks lv stk pc := by
  subst hst
  intro ad H lo ls h1 h2 h3 h4
  have hRm := h.R
  have hFc := free_of h h1 h3
  have hMM := hM ad H.size post
  have hst2 : (as.reverse ++ st).map (cv ad) = (as.map (cv ad)).reverse ++ (st.map (cv ad)) := by
    simp [cv]
  rw [hst2]
  refine va_callv (va_runS (As := as.map (cv ad)) (rest := st.map (cv ad)) ⟨h.x, h.b, h.ml, h.own, h.ts⟩ hMM (va_cwS n h.ts hG rfl hz.1 hz.2.1 hd (by rw [hRm]; exact hR)) ⟨PCX_blind, pre_of h h1 h3 hok hw⟩ rfl (by rw [List.length_map]; exact hn) h4.1 rfl (lv_room (by rw [catmap]; exact hcat)) d ⟨by rw [hRm]; exact hz.2.2.1, by rw [hRm]; exact hz.2.2.2⟩) h3 (fun q _ hh => hFc q hh) hFc (fun u t H1 lo1 ht hvm hp hB hz1 hk1 hS => ?_)
  have hB : World E.X E.A ad G u H1 := by rw [← ht]; exact hB.weak hFc
  exact k u hp ad H1 lo1 ls hB h2 hS h4
