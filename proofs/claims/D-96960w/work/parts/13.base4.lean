set_option maxRecDepth 100000
/-! NEW CELLS, CASTS, TEXTS, THE MACHINE'S OWN EXCEPTIONS -/
theorem ws_push {X : XE} {ad : Nat → Nat} {G : GG} {M : MM} {a c n : Nat} {e : va_E} (hcl : ∀ k, k < G.1 → ∀ j, okv G.1 (G.2.2.2 k j)) (he : cellK X (va_up ad G.1 a) c n (fun _ => .null) (fun _ => 0) (fun _ => 0) = e) : wsW X ad G M ++ [(a, e)] = wsW X (va_up ad G.1 a) (gN G c n) (mN G.1 M) := by
  unfold wsW
  show _ = (List.range (G.1 + 1)).map _
  rw [List.range_succ, List.map_append]
  congr 1
  · apply List.map_congr_left
    intro k hk
    have hk' := List.mem_range.mp hk
    have hne : k ≠ G.1 := Nat.ne_of_lt hk'
    have e1 : cellA X (va_up ad G.1 a) (gN G c n) (mN G.1 M) k = cellA X (va_up ad G.1 a) G M k := by
      simp [cellA, gN, mN, hne]
    have e2 : cellA X (va_up ad G.1 a) G M k = cellA X ad G M k := cellA_ext (fun j hj => if_neg (Nat.ne_of_lt hj)) (hcl k hk')
    rw [e1, e2]
    show (ad k, _) = (va_up ad G.1 a k, _)
    rw [show va_up ad G.1 a k = ad k from if_neg hne]
  · have e1 : cellA X (va_up ad G.1 a) (gN G c n) (mN G.1 M) G.1 = e := by
      rw [← he]; simp [cellA, gN, mN]
    rw [List.map_cons, List.map_nil, e1]
    show [(a, e)] = [(va_up ad G.1 a G.1, e)]
    rw [show va_up ad G.1 a G.1 = a from if_pos rfl]
theorem gN_ok {G : GG} {c n : Nat} (h : ∀ k, k < G.1 → ∀ j, okv G.1 (G.2.2.2 k j) ∧ rfk (G.2.2.2 k j)) : ∀ k, k < (gN G c n).1 → ∀ j, okv (gN G c n).1 ((gN G c n).2.2.2 k j) ∧ rfk ((gN G c n).2.2.2 k j) := by
  intro k hk j
  by_cases hk' : k = G.1
  · simp [gN, hk', okv, rfk]
  · have h2 : k < G.1 := by
      have : k < G.1 + 1 := hk
      omega
    have h3 := h k h2 j
    have e : (gN G c n).2.2.2 k j = G.2.2.2 k j := if_neg hk'
    rw [e]
    exact ⟨h3.1.gr (Nat.le_succ _), h3.2⟩
theorem gN_gx {G0 G : GG} {ad0 ad : Nat → Nat} {a c n : Nat} (h : GX G0 ad0 G ad) : GX G0 ad0 (gN G c n) (va_up ad G.1 a) :=
  h.trans ⟨Nat.le_succ _, fun k hk => ⟨if_neg (Nat.ne_of_lt hk), if_neg (Nat.ne_of_lt hk), if_neg (Nat.ne_of_lt hk)⟩⟩
theorem x_new {E : EN} {cc : ByteArray} {nL : Nat} {own : String} {rm : Room} {G : GG} {M : MM} {kc ks : Nat} {lv : List (Nat × Value)} {st : List Value} {pc : Nat} {C : String} {T : u_T} {N c index : Nat} (h : CX E cc nL own rm) (hc : c < 100) (hcl : clT[c]? = some (C, T, N)) (hnf : nf c = N) (hin : ∀ w ∈ u_ws C T N, w ∈ lw_all) (ty : Nat → FieldType) (hty : ∀ k, k < N → parseFieldDescriptor (T k).2.2.1 = some (ty k)) (hlink : Cond.classLink own index C ∈ lw_all) (hinst : Cond.instantiable C N ∈ lw_all) (hini : Cond.initialized C ∈ lw_all) (hdef : ∀ j, j < N → defaultValue (ty j) = fval id (fk c j) 0 0 .null)
    (hz : kc + 1 ≤ rm.cells ∧ ks + N ≤ rm.slots) (hst : okS G.1 st) (hlv : okL G.1 lv) (d : decode cc pc = .ok (.new index, 3)) (k : WX E nL (gN G c 0) (mN G.1 M) (kc + 1) (ks + N) lv (.ref G.1 :: st) (pc + 3)) : WX E nL G M kc ks lv st pc := by
  intro ad H lo ls h1 h2 h3 h4
  have hR := h.R
  refine va_new (fs := fields ad c (fun _ => .null) (fun _ => 0) (fun _ => 0)) h.x h.b h.ts hin ty hty h.own (h.ts _ hlink) (h.ts _ hinst) (h.ts _ hini) h.K h1.1 h1.2.1 h3 h.A hcl (fun j hj => ?_) (by rw [hR]; exact hz.1) (by rw [hR]; exact hz.2) d (fun q H1 g1 g2 g3 => ?_)
  · rw [hdef j hj]
    unfold vp_V
    rw [List.getD_eq_getElem?_getD, fields_at (by rw [hnf]; exact hj)]
    rfl
  · have he : cellK E.X (va_up ad G.1 q) c 0 (fun _ => .null) (fun _ => 0) (fun _ => 0) = .inr (c, fields ad c (fun _ => .null) (fun _ => 0) (fun _ => 0)) := by
      rw [cellK, if_pos hc]; rfl
    rw [ws_push (fun k hk j => (h1.2.2 k hk j).1) he] at g1 g2
    have hup : ∀ k, k < G.1 → va_up ad G.1 q k = ad k := fun k hk => if_neg (Nat.ne_of_lt hk)
    have kk := k (va_up ad G.1 q) H1 lo ls ⟨g1, g2, gN_ok h1.2.2⟩ (gN_gx h2) g3 (by rw [hlv.map hup]; exact h4)
    rw [List.map_cons, hst.map hup] at kk
    rw [show cv (va_up ad G.1 q) (.ref G.1) = .ref q from congrArg Value.ref (if_pos rfl)] at kk
    exact kk
theorem x_newa {E : EN} {cc : ByteArray} {nL : Nat} {own : String} {rm : Room} {G : GG} {M : MM} {kc ks : Nat} {lv : List (Nat × Value)} {st : List Value} {pc : Nat} {c N : Nat} {n : Int32} {atype : ArrayType} (h : CX E cc nL own rm) (hc1 : ¬ c < 100) (hc2 : c < 105) (hty : newarray.typeOf atype = tyN c) (harr : Cond.arrayClass (newarray.typeOf atype) ∈ lw_all) (hn : ¬ n < 0) (hN : n.toNatClampNeg = N) (hbytes : N * 8 ≤ 536870912)
    (hz : kc + 1 ≤ rm.cells ∧ ks + N ≤ rm.slots) (hst : okS G.1 st) (hlv : okL G.1 lv) (d : decode cc pc = .ok (.newarray atype, 2)) (k : WX E nL (gN G c N) (mN G.1 M) (kc + 1) (ks + N) lv (.ref G.1 :: st) (pc + 2)) : WX E nL G M kc ks lv (.int n :: st) pc := by
  intro ad H lo ls h1 h2 h3 h4
  have hR := h.R
  have hc : c = 100 ∨ c = 101 ∨ c = 102 ∨ c = 103 ∨ c = 104 := by omega
  have hb : N * componentBytes (tyN c) ≤ 536870912 := by
    rcases hc with rfl | rfl | rfl | rfl | rfl <;> simp [tyN, componentBytes] <;> omega
  refine va_newa (a0 := if c < 104 then (N, .inl (fun _ => 0)) else (N, .inr (.inl (fun _ => 0)))) h.x h.b (h.ts _ harr) hty h.K h1.1 h1.2.1 h3 h.A (fun cA => ?_) hn hN hb (by rw [hR]; exact hz.1) (by rw [hR]; exact hz.2) d (fun q cA H1 gK g1 g2 g3 => ?_)
  · rcases hc with rfl | rfl | rfl | rfl | rfl <;> rfl
  · have e1 := (gK.2 (tysT E.X).length (cA, tyN c) (by simp)).2
    have e2 := (h.K.2 (c - 100) (E.X.2.1 c, tyN c) (tys_at hc1 (by omega))).2
    have hcA : cA = E.X.2.1 c := by
      rcases hc with rfl | rfl | rfl | rfl | rfl <;> exact Option.some.inj ((show _ = some cA from e1).symm.trans (show _ = some (E.X.2.1 _) from e2))
    subst hcA
    have he : cellK E.X (va_up ad G.1 q) c N (fun _ => .null) (fun _ => 0) (fun _ => 0) = .inl (E.X.2.1 c, if c < 104 then (N, .inl (fun _ => 0)) else (N, .inr (.inl (fun _ => 0)))) := by
      rcases hc with rfl | rfl | rfl | rfl | rfl <;> rfl
    rw [ws_push (fun k hk j => (h1.2.2 k hk j).1) he] at g1 g2
    have hup : ∀ k, k < G.1 → va_up ad G.1 q k = ad k := fun k hk => if_neg (Nat.ne_of_lt hk)
    have kk := k (va_up ad G.1 q) H1 lo ls ⟨g1, g2, gN_ok h1.2.2⟩ (gN_gx h2) g3 (by rw [hlv.map hup]; exact h4)
    rw [List.map_cons, hst.map hup] at kk
    rw [show cv (va_up ad G.1 q) (.ref G.1) = .ref q from congrArg Value.ref (if_pos rfl)] at kk
    exact kk
theorem x_newq {E : EN} {cc : ByteArray} {nL : Nat} {own : String} {rm : Room} {G : GG} {M : MM} {kc ks : Nat} {lv : List (Nat × Value)} {st : List Value} {pc : Nat} {c N index : Nat} {n : Int32} {C : String} (h : CX E cc nL own rm) (hc1 : ¬ c < 105) (hc2 : c < 113) (hC : tyN c = .object C) (hlink : Cond.classLink own index C ∈ lw_all) (hover : Cond.arrayOver (.object C) ∈ xw) (hn : ¬ n < 0) (hN : n.toNatClampNeg = N) (hbytes : N * 4 ≤ 536870912)
    (hz : kc + 1 ≤ rm.cells ∧ ks + N ≤ rm.slots) (hst : okS G.1 st) (hlv : okL G.1 lv) (d : decode cc pc = .ok (.anewarray index, 3)) (k : WX E nL (gN G c N) (mN G.1 M) (kc + 1) (ks + N) lv (.ref G.1 :: st) (pc + 3)) : WX E nL G M kc ks lv (.int n :: st) pc := by
  intro ad H lo ls h1 h2 h3 h4
  have hR := h.R
  refine va_newq h.x h.b h.own (h.ts _ hlink) (h.w hover) h.K h1.1 h1.2.1 h3 h.A hn hN hbytes (by rw [hR]; exact hz.1) (by rw [hR]; exact hz.2) d (fun q cA H1 gK g1 g2 g3 => ?_)
  have e1 := (gK.2 (tysT E.X).length (cA, .object C) (by simp)).2
  have e2 := (h.K.2 (c - 100) (E.X.2.1 c, .object C) (by rw [tys_at (by omega) hc2, hC])).2
  have hcA : cA = E.X.2.1 c := by
    obtain ⟨-, -, -, -, -, a1⟩ := e1
    obtain ⟨-, -, -, -, -, a2⟩ := e2
    exact Option.some.inj (a1.symm.trans a2)
  subst hcA
  have he : cellK E.X (va_up ad G.1 q) c N (fun _ => .null) (fun _ => 0) (fun _ => 0) = .inl (E.X.2.1 c, N, .inr (.inr (.inr (.inr (fun _ => none))))) := by
    rw [cellK, if_neg (by omega), if_neg (by omega), if_neg hc1]; rfl
  rw [ws_push (fun k hk j => (h1.2.2 k hk j).1) he] at g1 g2
  have hup : ∀ k, k < G.1 → va_up ad G.1 q k = ad k := fun k hk => if_neg (Nat.ne_of_lt hk)
  have kk := k (va_up ad G.1 q) H1 lo ls ⟨g1, g2, gN_ok h1.2.2⟩ (gN_gx h2) g3 (by rw [hlv.map hup]; exact h4)
  rw [List.map_cons, hst.map hup] at kk
  rw [show cv (va_up ad G.1 q) (.ref G.1) = .ref q from congrArg Value.ref (if_pos rfl)] at kk
  exact kk
/-- a cell's references become others -/
def mQ (G : GG) (q : Nat) (r : Nat → Value) : GG := (G.1, G.2.1, G.2.2.1, fun a b => if a = q then r b else G.2.2.2 a b)
/-- one of several final fields of one name is written: the others of that name are as they were, or hold the same -/
theorem x_putS {E : EN} {cc : ByteArray} {nL : Nat} {own : String} {rm : Room} {G : GG} {M : MM} {kc ks : Nat} {lv : List (Nat × Value)} {st : List Value} {pc : Nat} {ref C : String} {T : u_T} {N index q c j : Nat} {ty : FieldType} {v : Value} (h : CX E cc nL own rm) (hini : E.meth.name = "<init>") (hq : isK G q c) (hc : c < 100) (hcl : clT[c]? = some (C, T, N)) (hnf : nf c = N) (hj : j < N) (hin : ∀ w ∈ u_ws C T N, w ∈ lw_all) (ty0 : Nat → FieldType) (hty : ∀ k, k < N → parseFieldDescriptor (T k).2.2.1 = some (ty0 k)) (hsame2 : ∀ b, b < N → (T b).2.1 = (T j).2.1 → fk c b = 2) (hlink : Cond.fieldLink own index ref (T j).2.1 (T j).2.2.1 ∈ lw_all) (hsame : ∀ x, E.s.fieldFound? (T j).1 (T j).2.1 (T j).2.2.1 = some x → E.s.fieldFound? ref (T j).2.1 (T j).2.2.1 = some x) (hfin : (T j).2.2.2 = true) (hdecl : (T j).1 = own) (hd : parseFieldDescriptor (T j).2.2.1 = some ty) (hn : ∀ ad, narrow ty (cv ad v) = cv ad v) (hfit : ∀ ad, fits ty (cv ad v) = true) (hv : okv G.1 v) (hr : rfk v) (d : decode cc pc = .ok (.putfield index, 3))
    (k : ∀ r : Nat → Value, r j = v → (∀ b, r b = v ∨ r b = G.2.2.2 q b) → WX E nL (mQ G q r) M kc ks lv st (pc + 3)) : WX E nL G M kc ks lv (v :: .ref q :: st) pc := by
  intro ad H lo ls h1 h2 h3 h4
  obtain ⟨r0, hr0, cell, q1, q2, q3, q4⟩ := h1.1 q _ (ws_obj hq hc)
  have hrr : r0 = (C, T, N) := Option.some.inj (hr0.symm.trans hcl)
  subst hrr
  obtain ⟨hS, hfc, kC, hkC, hkind⟩ := h.K.1 c _ hcl
  obtain ⟨cf, kf, fi, f, hi, hsl⟩ := hS j hj
  have hlay := h.ts _ (hin _ (u_in_lay hj))
  unfold u_lay at hlay
  rw [if_pos hfin] at hlay
  have hst := (u_facts hfc hkC (u_lays h.ts hin hj) hi).1
  have hcf : E.m.cls = cf := by
    obtain ⟨_, _, c', _, _, _, -, -, hf', -, -, -, hown2, -⟩ := Cond.laysFinal_spec hlay
    have e1 : c' = cf := by have := hi.symm.trans hf'; simp at this; exact this.1.symm
    rw [hdecl] at hown2
    rw [← e1]; exact Option.some.inj (h.own.symm.trans hown2)
  have h6 := u_fits hfc hkC hkind (Or.inr hlay) hi hd (hn ad) (hfit ad)
  refine W.putFinK h.x h.b h.own (h.ts _ hlink) (hsame _ hi) hst hcf hini (by rw [q2]; exact h6) q1 q3 (by rw [hsl]; exact k2_hasslot (q4 j hj)) rfl rfl d fun H' e1 e2 e3 => ?_
  rw [hsl] at e1 ⊢
  let r : Nat → Value := fun b => if fk c b = 2 ∧ E.X.1.2 c b = E.X.1.2 c j then v else G.2.2.2 q b
  have hfkj : fk c j = 2 := hsame2 j hj rfl
  have hr1 : r j = v := if_pos ⟨hfkj, rfl⟩
  have hr2 : ∀ b, r b = v ∨ r b = G.2.2.2 q b := by
    intro b
    by_cases hb : fk c b = 2 ∧ E.X.1.2 c b = E.X.1.2 c j
    · exact Or.inl (if_pos hb)
    · exact Or.inr (if_neg hb)
  have hslots : ∀ b, b < N → (cell.setSlot (E.X.1.2 c j) (cv ad v)).slots[E.X.1.2 c b]? = some (vp_V (fields ad c r (M.1 q) (M.2 q)) b) := by
    intro b hb
    have hvb : vp_V (fields ad c r (M.1 q) (M.2 q)) b = fval ad (fk c b) (M.1 q b) (M.2 q b) (r b) := by
      unfold vp_V; rw [List.getD_eq_getElem?_getD, fields_at (by rw [hnf]; exact hb)]; rfl
    have hold : vp_V (fields ad c (G.2.2.2 q) (M.1 q) (M.2 q)) b = fval ad (fk c b) (M.1 q b) (M.2 q b) (G.2.2.2 q b) := by
      unfold vp_V; rw [List.getD_eq_getElem?_getD, fields_at (by rw [hnf]; exact hb)]; rfl
    rw [hvb]
    by_cases hsl2 : E.X.1.2 c b = E.X.1.2 c j
    · have hnm : (T b).2.1 = (T j).2.1 := by
        by_cases hn2 : (T b).2.1 = (T j).2.1
        · exact hn2
        · obtain ⟨_, _, _, fb, hib, eb⟩ := hS b hb
          have hne : fb.name ≠ f.name := by
            rw [(State.fieldFound?_type hib (hty b hb)).1, (State.fieldFound?_type hi (hty j hj)).1]; exact hn2
          exact absurd (eb.trans (hsl2.trans hsl.symm)) (u_apart (u_lays h.ts hin hb) (u_lays h.ts hin hj) hib hi hne)
      have hf2 := hsame2 b hb hnm
      rw [hsl2, Cell.slots_setSlot_self _ (k2_hasslot (q4 j hj)), hf2]
      have : r b = v := if_pos ⟨hf2, hsl2⟩
      rw [this]; rfl
    · rw [slot_ne _ _ (fun z => hsl2 z.symm), q4 b hb]
      have : r b = G.2.2.2 q b := if_neg (fun z => hsl2 z.2)
      rw [this, ← hold]
  have e : (wsW E.X ad G M).set q (ad q, .inr (c, fields ad c r (M.1 q) (M.2 q))) = wsW E.X ad (mQ G q r) M := by
    refine ws_set rfl ?_ ?_
    · rw [cellA, show (mQ G q r).2.1 q = c from hq.2, cellK, if_pos hc]
      have : (mQ G q r).2.2.2 q = r := by funext b; simp [mQ]
      rw [this]
    · intro k hk
      have : (mQ G q r).2.2.2 k = G.2.2.2 k := by funext b; simp [mQ, hk]
      simp only [cellA, this]; rfl
  have g1 := h1.1.set h1.2.1 (ws_obj hq hc) (e := .inr (c, fields ad c r (M.1 q) (M.2 q))) (H1 := H') ⟨_, hcl, _, e1, q2, q3, hslots⟩ e3
  have g2 := h1.2.1.set (e := .inr (c, fields ad c r (M.1 q) (M.2 q))) (ws_obj (X := E.X) (ad := ad) (M := M) hq hc)
  rw [e] at g1 g2
  refine k r hr1 hr2 ad H' _ ls ⟨g1, g2, fun a ha b => ?_⟩ h2 (h3.put e2 e3 (h1.2.1.2 q _ (ws_obj hq hc))) h4
  show okv G.1 (if a = q then r b else G.2.2.2 a b) ∧ rfk (if a = q then r b else G.2.2.2 a b)
  split
  · rcases hr2 b with e9 | e9 <;> rw [e9]
    · exact ⟨hv, hr⟩
    · exact h1.2.2 q hq.1 b
  · exact h1.2.2 a ha b
/-- a class by its number, objects and arrays of numbers -/
def nmK (c : Nat) : String := if c < 100 then ((clT[c]?).map (fun q => q.1)).getD "" else "[" ++ (tyN c).toString
theorem cls_of {E : EN} {cc : ByteArray} {nL : Nat} {own : String} {rm : Room} {G : GG} {M : MM} {ad : Nat → Nat} {H : Heap} {q c : Nat} (h : CX E cc nL own rm) (h1 : World E.X E.A ad G M H) (hq : isK G q c) (hc : c < 27 ∨ (100 ≤ c ∧ c < 105)) : ∃ cell : Cell, H[ad q]? = some cell ∧ cell.vm.isStatics = false ∧ E.s.vm.findClass (nmK c) = some cell.cls := by
  rcases hc with hc | hc
  · obtain ⟨r, hr⟩ : ∃ r, clT[c]? = some r := ⟨clT[c]'(by simpa [clT] using hc), List.getElem?_eq_getElem _⟩
    have := va_recv h.K h1.1 hr (ws_obj hq (by omega))
    rw [nmK, if_pos (by omega), hr]
    exact this
  · obtain ⟨a, ha, hw⟩ := ws_arr (X := E.X) (ad := ad) (M := M) hq (by omega)
    have g := h1.1 q _ hw
    have e2 := (h.K.2 (c - 100) (E.X.2.1 c, tyN c) (tys_at (by omega) (by omega))).2
    have hvm : (vp_cell (E.X.2.1 c) a).vm = .none := by obtain ⟨n, f | f | f | f | f⟩ := a <;> rfl
    have hcc : (vp_cell (E.X.2.1 c) a).cls = E.X.2.1 c := by obtain ⟨n, f | f | f | f | f⟩ := a <;> rfl
    refine ⟨_, g, by rw [hvm]; rfl, ?_⟩
    rw [nmK, if_neg (by omega), hcc]
    have hc5 : c = 100 ∨ c = 101 ∨ c = 102 ∨ c = 103 ∨ c = 104 := by omega
    rcases hc5 with rfl | rfl | rfl | rfl | rfl <;> exact e2
theorem x_castE {E : EN} {cc : ByteArray} {nL : Nat} {own : String} {rm : Room} {G : GG} {M : MM} {kc ks : Nat} {lv : List (Nat × Value)} {st : List Value} {pc : Nat} {q c index : Nat} {nm : String} (h : CX E cc nL own rm) (hq : isK G q c) (hc : c < 27 ∨ (100 ≤ c ∧ c < 105)) (hnm : nmK c = nm) (hlink : Cond.classLink own index nm ∈ lw_all) (d : decode cc pc = .ok (.checkcast index, 3)) (k : WX E nL G M kc ks lv (.ref q :: st) (pc + 3)) : WX E nL G M kc ks lv (.ref q :: st) pc := by
  intro ad H lo ls h1 h2 h3 h4
  obtain ⟨cell, g1, g2, g3⟩ := cls_of h h1 hq hc
  exact va_castE h.x h.b h.own (h.ts _ hlink) ⟨cell, g1, g2, by rw [← hnm]; exact g3⟩ d (k ad H lo ls h1 h2 h3 h4)
theorem x_castY {E : EN} {cc : ByteArray} {nL : Nat} {own : String} {rm : Room} {G : GG} {M : MM} {kc ks : Nat} {lv : List (Nat × Value)} {st : List Value} {pc : Nat} {q c index : Nat} {C nm : String} (h : CX E cc nL own rm) (hq : isK G q c) (hc : c < 27 ∨ (100 ≤ c ∧ c < 105)) (hnm : nmK c = C) (hca : Cond.castable C nm ∈ xw) (hlink : Cond.classLink own index nm ∈ lw_all) (d : decode cc pc = .ok (.checkcast index, 3)) (k : WX E nL G M kc ks lv (.ref q :: st) (pc + 3)) : WX E nL G M kc ks lv (.ref q :: st) pc := by
  intro ad H lo ls h1 h2 h3 h4
  obtain ⟨cell, g1, g2, g3⟩ := cls_of h h1 hq hc
  exact va_castY h.x h.b h.own (h.ts _ hlink) (h.w hca) ⟨cell, g1, g2, by rw [← hnm]; exact g3⟩ d (k ad H lo ls h1 h2 h3 h4)
theorem x_instE {E : EN} {cc : ByteArray} {nL : Nat} {own : String} {rm : Room} {G : GG} {M : MM} {kc ks : Nat} {lv : List (Nat × Value)} {st : List Value} {pc : Nat} {q c index : Nat} {nm : String} (h : CX E cc nL own rm) (hq : isK G q c) (hc : c < 27 ∨ (100 ≤ c ∧ c < 105)) (hnm : nmK c = nm) (hlink : Cond.classLink own index nm ∈ lw_all) (d : decode cc pc = .ok (.instanceof index, 3)) (k : WX E nL G M kc ks lv (.int 1 :: st) (pc + 3)) : WX E nL G M kc ks lv (.ref q :: st) pc := by
  intro ad H lo ls h1 h2 h3 h4
  obtain ⟨cell, g1, g2, g3⟩ := cls_of h h1 hq hc
  exact va_instE h.x h.b h.own (h.ts _ hlink) ⟨cell, g1, g2, by rw [← hnm]; exact g3⟩ d (k ad H lo ls h1 h2 h3 h4)
theorem x_instY {E : EN} {cc : ByteArray} {nL : Nat} {own : String} {rm : Room} {G : GG} {M : MM} {kc ks : Nat} {lv : List (Nat × Value)} {st : List Value} {pc : Nat} {q c index : Nat} {C nm : String} (h : CX E cc nL own rm) (hq : isK G q c) (hc : c < 27 ∨ (100 ≤ c ∧ c < 105)) (hnm : nmK c = C) (hca : Cond.castable C nm ∈ xw) (hlink : Cond.classLink own index nm ∈ lw_all) (d : decode cc pc = .ok (.instanceof index, 3)) (k : WX E nL G M kc ks lv (.int 1 :: st) (pc + 3)) : WX E nL G M kc ks lv (.ref q :: st) pc := by
  intro ad H lo ls h1 h2 h3 h4
  obtain ⟨cell, g1, g2, g3⟩ := cls_of h h1 hq hc
  exact va_instY h.x h.b h.own (h.ts _ hlink) (h.w hca) ⟨cell, g1, g2, by rw [← hnm]; exact g3⟩ d (k ad H lo ls h1 h2 h3 h4)
theorem x_instNo {E : EN} {cc : ByteArray} {nL : Nat} {own : String} {rm : Room} {G : GG} {M : MM} {kc ks : Nat} {lv : List (Nat × Value)} {st : List Value} {pc : Nat} {q c index : Nat} {C nm : String} (h : CX E cc nL own rm) (hq : isK G q c) (hc : c < 27 ∨ (100 ≤ c ∧ c < 105)) (hnm : nmK c = C) (hca : (C, nm) ∈ ncP) (hlink : Cond.classLink own index nm ∈ lw_all) (d : decode cc pc = .ok (.instanceof index, 3)) (k : WX E nL G M kc ks lv (.int 0 :: st) (pc + 3)) : WX E nL G M kc ks lv (.ref q :: st) pc := by
  intro ad H lo ls h1 h2 h3 h4
  obtain ⟨cell, g1, g2, g3⟩ := cls_of h h1 hq hc
  exact va_instNo h.x h.b h.own (h.ts _ hlink) (h.B.2.2.2.2.1 _ hca) ⟨cell, g1, g2, by rw [← hnm]; exact g3⟩ d (k ad H lo ls h1 h2 h3 h4)
theorem x_castN {E : EN} {cc : ByteArray} {nL : Nat} {own : String} {rm : Room} {G : GG} {M : MM} {kc ks : Nat} {lv : List (Nat × Value)} {st : List Value} {pc : Nat} {index : Nat} (h : CX E cc nL own rm) (d : decode cc pc = .ok (.checkcast index, 3)) (k : WX E nL G M kc ks lv (.null :: st) (pc + 3)) : WX E nL G M kc ks lv (.null :: st) pc := fun ad H lo ls h1 h2 h3 h4 => lv_castN h.x h.b d (k ad H lo ls h1 h2 h3 h4)
theorem x_instN {E : EN} {cc : ByteArray} {nL : Nat} {own : String} {rm : Room} {G : GG} {M : MM} {kc ks : Nat} {lv : List (Nat × Value)} {st : List Value} {pc : Nat} {index : Nat} (h : CX E cc nL own rm) (d : decode cc pc = .ok (.instanceof index, 3)) (k : WX E nL G M kc ks lv (.int 0 :: st) (pc + 3)) : WX E nL G M kc ks lv (.null :: st) pc := fun ad H lo ls h1 h2 h3 h4 => lv_instN h.x h.b d (k ad H lo ls h1 h2 h3 h4)
theorem x_objInit {E : EN} {cc : ByteArray} {nL : Nat} {own : String} {rm : Room} {G : GG} {M : MM} {kc ks : Nat} {lv : List (Nat × Value)} {st : List Value} {pc : Nat} {q index : Nat} (h : CX E cc nL own rm) (hlink : Cond.methodLink own index Lib.objectInit ∈ lw_all) (hinst : Cond.instanceMethod Lib.objectInit ∈ lw_all) (hcode : Cond.code Lib.objectInit ⟨#[0xb1]⟩ 1 none ∈ lw_all) (hR : 1 ≤ rm.frames ∧ (st.map fun v => v.category).sum + 12 ≤ rm.locals) (d : decode cc pc = .ok (.invokespecial index, 3)) (k : WX E nL G M kc ks lv st (pc + 3)) : WX E nL G M kc ks lv (.ref q :: st) pc := by
  intro ad H lo ls h1 h2 h3 h4
  have hRm := h.R
  refine W.objInit h.x h.b h.own (h.ts _ hlink) (h.ts _ hinst) (h.ts _ hcode) rfl (by rw [h.ml]; exact h4.1) rfl d (by rw [hRm]; exact hR.1) (by rw [hRm, catmap]; have := hR.2; show 2 * 0 + _ + 12 ≤ _; omega) ?_
  exact k ad H lo ls h1 h2 h3 h4
theorem x_getsI {E : EN} {cc : ByteArray} {nL : Nat} {own : String} {rm : Room} {G : GG} {M : MM} {kc ks : Nat} {lv : List (Nat × Value)} {st : List Value} {pc : Nat} {C n d0 ref : String} {x : Int32} {index : Nat} (h : CX E cc nL own rm) (hZ : va_Z C n d0 (.int x) E.A E.s E.s.heap) (hlink : Cond.fieldLink own index ref n d0 ∈ lw_all) (hsame : ∀ x, E.s.fieldFound? C n d0 = some x → E.s.fieldFound? ref n d0 = some x) (d : decode cc pc = .ok (.getstatic index, 3)) (k : WX E nL G M kc ks lv (.int x :: st) (pc + 3)) : WX E nL G M kc ks lv st pc := fun ad H lo ls h1 h2 h3 h4 => va_gets h.x h.b hZ h3 h.own (h.ts _ hlink) hsame d (k ad H lo ls h1 h2 h3 h4)
theorem x_getsQ {E : EN} {cc : ByteArray} {nL : Nat} {own : String} {rm : Room} {G : GG} {M : MM} {kc ks : Nat} {lv : List (Nat × Value)} {st : List Value} {pc : Nat} {C n d0 ref : String} {index : Nat} (h : CX E cc nL own rm) (hZ : va_Zq C n d0 E.A E.s E.s.heap) (hlink : Cond.fieldLink own index ref n d0 ∈ lw_all) (hsame : ∀ x, E.s.fieldFound? C n d0 = some x → E.s.fieldFound? ref n d0 = some x) (d : decode cc pc = .ok (.getstatic index, 3)) (k : ∀ v : Value, rfk v → (∀ N, okv N v) → WX E nL G M kc ks lv (v :: st) (pc + 3)) : WX E nL G M kc ks lv st pc := by
  intro ad H lo ls h1 h2 h3 h4
  rcases hZ with hZ | ⟨t, hZ⟩
  · exact va_gets h.x h.b hZ h3 h.own (h.ts _ hlink) hsame d (k .null trivial (fun _ => trivial) ad H lo ls h1 h2 h3 h4)
  · exact va_gets h.x h.b hZ h3 h.own (h.ts _ hlink) hsame d (k (.retAddr t) trivial (fun _ => trivial) ad H lo ls h1 h2 h3 h4)
theorem x_ifnonnullV {E : EN} {cc : ByteArray} {nL : Nat} {own : String} {rm : Room} {G : GG} {M : MM} {kc ks : Nat} {lv : List (Nat × Value)} {st : List Value} {pc : Nat} {v : Value} {off : Int} {tgt : Nat} (h : CX E cc nL own rm) (hv : rfk v) (d : decode cc pc = .ok (.ifnonnull off, 3)) (ht : (pc : Int) + off = (tgt : Int)) (kt : ¬ v = .null → WX E nL G M kc ks lv st tgt) (kf : v = .null → WX E nL G M kc ks lv st (pc + 3)) : WX E nL G M kc ks lv (v :: st) pc := by
  intro ad H lo ls h1 h2 h3 h4
  cases v <;> first | exact False.elim hv | exact lv_ifnonnullN h.x h.b d (kf rfl ad H lo ls h1 h2 h3 h4) | exact lv_ifnonnull h.x h.b d ht (kt (by simp) ad H lo ls h1 h2 h3 h4)
/-- a read reference is of the world's kind -/
theorem x_refok {E : EN} {cc : ByteArray} {nL : Nat} {own : String} {rm : Room} {G : GG} {M : MM} {kc ks : Nat} {lv : List (Nat × Value)} {st : List Value} {pc : Nat} {q j : Nat} (hq : q < G.1) (k : okv G.1 (G.2.2.2 q j) → rfk (G.2.2.2 q j) → WX E nL G M kc ks lv st pc) : WX E nL G M kc ks lv st pc := fun ad H lo ls h1 h2 h3 h4 => k (h1.2.2 q hq j).1 (h1.2.2 q hq j).2 ad H lo ls h1 h2 h3 h4
