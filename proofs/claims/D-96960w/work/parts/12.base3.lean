set_option maxRecDepth 100000
/-! METHODS THAT MAKE CELLS OR WRITE REFERENCES (a), THAT MAY THROW (x) -/
def GrG (G0 G : GG) : Prop := G0.1 ≤ G.1 ∧ ∀ k, k < G0.1 → G.2.1 k = G0.2.1 k ∧ G.2.2.1 k = G0.2.2.1 k
theorem GX.gr {G G1 : GG} {ad ad1 : Nat → Nat} (h : GX G ad G1 ad1) : GrG G G1 := ⟨h.1, fun k hk => (h.2 k hk).2⟩
theorem GX.trans {G0 G G1 : GG} {ad0 ad ad1 : Nat → Nat} (h : GX G0 ad0 G ad) (g : GX G ad G1 ad1) : GX G0 ad0 G1 ad1 := by
  refine ⟨Nat.le_trans h.1 g.1, fun k hk => ?_⟩
  obtain ⟨a1, a2, a3⟩ := h.2 k hk
  obtain ⟨b1, b2, b3⟩ := g.2 k (Nat.lt_of_lt_of_le hk h.1)
  exact ⟨b1.trans a1, b2.trans a2, b3.trans a3⟩
theorem GrG.rf {G : GG} : GrG G G := ⟨Nat.le_refl _, fun _ _ => ⟨rfl, rfl⟩⟩
theorem isK.gr {G G1 : GG} {q c : Nat} (h : isK G q c) (g : GrG G G1) : isK G1 q c := ⟨Nat.lt_of_lt_of_le h.1 g.1, (g.2 q h.1).1.trans h.2⟩
theorem okv.gr {N N1 : Nat} {v : Value} (h : okv N v) (g : N ≤ N1) : okv N1 v := by
  cases v <;> first | exact trivial | exact Nat.lt_of_lt_of_le h g
theorem isK.new {G : GG} {c n : Nat} : isK (gN G c n) G.1 c := ⟨Nat.lt_succ_self _, if_pos rfl⟩
theorem GrG.new {G : GG} {c n : Nat} : GrG G (gN G c n) := ⟨Nat.le_succ _, fun k hk => ⟨if_neg (Nat.ne_of_lt hk), if_neg (Nat.ne_of_lt hk)⟩⟩
theorem GrG.mR {G : GG} {q j : Nat} {v : Value} : GrG G (mR G q j v) := ⟨Nat.le_refl _, fun _ _ => ⟨rfl, rfl⟩⟩
theorem GrG.trans {G0 G G1 : GG} (h : GrG G0 G) (g : GrG G G1) : GrG G0 G1 := ⟨Nat.le_trans h.1 g.1, fun k hk => ⟨(g.2 k (Nat.lt_of_lt_of_le hk h.1)).1.trans (h.2 k hk).1, (g.2 k (Nat.lt_of_lt_of_le hk h.1)).2.trans (h.2 k hk).2⟩⟩
def okS (N : Nat) (st : List Value) : Prop := ∀ v ∈ st, okv N v
def okL (N : Nat) (lv : List (Nat × Value)) : Prop := ∀ q ∈ lv, okv N q.2
theorem okS.map {N : Nat} {st : List Value} (h : okS N st) {ad ad1 : Nat → Nat} (he : ∀ k, k < N → ad1 k = ad k) : st.map (cv ad1) = st.map (cv ad) := List.map_congr_left fun v hv => cv_ext he (h v hv)
theorem okL.map {N : Nat} {lv : List (Nat × Value)} (h : okL N lv) {ad ad1 : Nat → Nat} (he : ∀ k, k < N → ad1 k = ad k) : lv.map (cl_ ad1) = lv.map (cl_ ad) := List.map_congr_left fun v hv => by unfold cl_; rw [cv_ext he (h v hv)]
abbrev SA : Type := (Nat → Nat) × GG × MM
/-- where an exception is under way: the class by its name, the object -/
def WXX (E : EN) (nL : Nat) (G : GG) (M : MM) (kc ks : Nat) (lv : List (Nat × Value)) (st : List Value) (pc : Nat) (En : String) (v : Value) : Prop :=
  ∀ (ad : Nat → Nat) (H : Heap) (lo : List Loc) (ls : Array Slot) (q : Nat) (ce : Cell), World E.X E.A ad G M H → GX E.G0 E.ad0 G ad → va_S E.A E.s.heap H lo → lv_has ls nL (lv.map (cl_ ad)) → cv ad v = .ref q → H[q]? = some ce → ce.vm = .none → E.s.vm.findClass En = some ce.cls →
    vx_W E.p E.l E.e E.R E.s E.m E.args E.below E.meth E.c H lo kc ks E.Q (F0 E.m pc ls (st.map (cv ad))) q
abbrev PX : Type := String → Value → GG → MM → Prop
def XCx (X : XE) (ad : Nat → Nat) (sz : Nat) (G : GG) (postX : PX) : Addr → String → State → State → Prop := fun q En st t =>
  (∃ (v : Value) (u : SA), postX En v u.2.1 u.2.2 ∧ cv u.1 v = .ref q ∧ okv u.2.1.1 v ∧ rfk v ∧ GX G ad u.2.1 u.1 ∧ World X (WA ad G.1 sz) u.1 u.2.1 u.2.2 t.heap) ∧ va_F (WA ad G.1 sz) st t
/-- it goes on to the caller -/
def RXX (E : EN) (nL mc ms : Nat) (postX : PX) : Prop := ∀ (En : String) (v : Value) (G : GG) (M : MM) (lv : List (Nat × Value)) (st : List Value) (pc kc ks : Nat), postX En v G M → okv G.1 v → rfk v → kc ≤ mc → ks ≤ ms → (∀ x ∈ E.c.exceptionTable.toList, covers x pc = false) → WXX E nL G M kc ks lv st pc En v
theorem x_athrow {E : EN} {cc : ByteArray} {nL : Nat} {own : String} {rm : Room} {G : GG} {M : MM} {kc ks : Nat} {lv : List (Nat × Value)} {st : List Value} {pc : Nat} {k ci : Nat} {C : String} {T : u_T} {N : Nat} (h : CX E cc nL own rm) (hq : isK G k ci) (hci : ci < 100) (hcl : clT[ci]? = some (C, T, N)) (d : decode cc pc = .ok (.athrow, 1)) (kx : WXX E nL G M kc ks lv st pc C (.ref k)) : WX E nL G M kc ks lv (.ref k :: st) pc := by
  intro ad H lo ls h1 h2 h3 h4
  obtain ⟨r, hr, cell, g1, g2, g3, -⟩ := h1.1 k _ (ws_obj hq hci)
  have e := (h.K.1 ci _ hcl).2.1
  exact vx_athrow h.x h.b d (kx ad H lo ls (ad k) cell h1 h2 h3 h4 rfl g1 g3 (by rw [g2]; exact e))
/-- it is caught here -/
theorem x_catch {E : EN} {cc : ByteArray} {nL : Nat} {own : String} {rm : Room} {G : GG} {M : MM} {kc ks : Nat} {lv : List (Nat × Value)} {st : List Value} {pc : Nat} {En name : String} {v : Value} {hp : Nat} (h : CX E cc nL own rm) (pre : List ExceptionTableEntry) (x : ExceptionTableEntry) (suf : List ExceptionTableEntry) (ht : E.c.exceptionTable.toList = pre ++ x :: suf)
    (hpass : ∀ z ∈ pre, covers z pc = false ∨ (z.catchType ≠ 0 ∧ ∃ nm : String, Cond.classLink own z.catchType nm ∈ lw_all ∧ (En, nm) ∈ ncP)) (hx : covers x pc = true) (h0 : x.catchType ≠ 0) (hpc : x.handlerPc = hp) (hlink : Cond.classLink own x.catchType name ∈ lw_all) (hcast : Cond.castable En name ∈ xw)
    (k : WX E nL G M kc ks lv [v] hp) : WXX E nL G M kc ks lv st pc En v := by
  intro ad H lo ls q ce h1 h2 h3 h4 hv hc hvm hcl
  have kk := k ad H lo ls h1 h2 h3 h4
  rw [List.map_cons, List.map_nil, hv] at kk
  refine vx_catch h.own pre x suf ht (fun z hz => ?_) hx h0 (h.ts _ hlink) (va_Nw.use rfl (h.w hcast)) hc hvm hcl (by rw [hpc]; exact kk)
  rcases hpass z hz with h9 | ⟨h9, nm, h10, h11⟩
  · exact Or.inl h9
  · exact Or.inr ⟨h9, nm, h.ts _ h10, h.B.2.2.2.2.1 _ h11⟩
theorem x_wideX {E : EN} {nL : Nat} {G : GG} {M : MM} {kc ks : Nat} {lv : List (Nat × Value)} {st : List Value} {pc kc' ks' : Nat} {En : String} {v : Value} (a : kc ≤ kc') (b : ks ≤ ks') (k : WXX E nL G M kc' ks' lv st pc En v) : WXX E nL G M kc ks lv st pc En v := fun ad H lo ls q ce h1 h2 h3 h4 h5 h6 h7 h8 => vx_widen a b (k ad H lo ls q ce h1 h2 h3 h4 h5 h6 h7 h8)
def QAi (X : XE) (ad : Nat → Nat) (sz : Nat) (G : GG) (post : Int32 → GG → MM → Prop) : Array Value → State → Outcome → State → Prop := va_Qi (fun (r : Int32) (u : SA) => post r u.2.1 u.2.2 ∧ GX G ad u.2.1 u.1) (fun u t => World X (WA ad G.1 sz) u.1 u.2.1 u.2.2 t.heap) (WA ad G.1 sz)
def MAi (l : Launch) (X : XE) (y : MethodName) (ws : List Cond) (rm : Room) (mc ms : Nat) (as : List Value) (G : GG) (M : MM) (wp : (Int32 → GG → MM → Prop) → Prop) : Prop := ∀ (ad : Nat → Nat) (sz : Nat) (post : Int32 → GG → MM → Prop), Met l y ws rm (PCX X ad sz G M as (wp post)) (QAi X ad sz G post) mc ms (WA ad G.1 sz)
def MXi (l : Launch) (X : XE) (y : MethodName) (ws : List Cond) (rm : Room) (mc ms : Nat) (as : List Value) (G : GG) (M : MM) (wp : (Int32 → GG → MM → Prop) → PX → Prop) : Prop := ∀ (ad : Nat → Nat) (sz : Nat) (post : Int32 → GG → MM → Prop) (postX : PX), vx_Met l y ws rm (PCX X ad sz G M as (wp post postX)) (QAi X ad sz G post) (XCx X ad sz G postX) mc ms (WA ad G.1 sz)
def RAi (E : EN) (cc : ByteArray) (nL mc ms : Nat) (post : Int32 → GG → MM → Prop) : Prop := ∀ (r : Int32) (G : GG) (M : MM) (pc : Nat) (lv : List (Nat × Value)) (kc ks : Nat), post r G M → kc ≤ mc → ks ≤ ms → decode cc pc = .ok (.ireturn, 1) → WX E nL G M kc ks lv [.int r] pc
theorem mk_ai {l : Launch} {y : MethodName} {cc : ByteArray} {nL mc ms : Nat} {rm : Room} {as : List Value} {G : GG} {M : MM} {wp : (Int32 → GG → MM → Prop) → Prop} {X : XE} (hl : l.stackTraces = false) (hy : plainName y.cls = true) (hn : (lg_sl as).length ≤ nL) 
    (body : ∀ (E : EN) (post : Int32 → GG → MM → Prop), CX E cc nL y.cls rm → E.l = l → E.X = X → E.meth.name = y.name → GX E.G0 E.ad0 G E.ad0 → RAi E cc nL mc ms post → wp post → WX E nL G M 0 0 (lv_args 0 as) [] 0) : MAi l X y (ws_ y cc nL (some .int)) rm mc ms as G M wp := by
  intro ad sz post
  refine Met.ofW (cc := cc) (maxL := nL) (ret := some .int) hy rfl ?_
  intro p e s m args below meth c s₁ B hml hv
  obtain ⟨rfl, hsz, hW, hB, hok, hw⟩ := hv
  subst hsz
  have hts0 := atoms_spec (ws := ws_ y cc nL (some .int)) B.pre
  have hts := hts0
  have key := body (p, l, e, _, s, m, _, below, meth, c, X, WA ad G.1 s.heap.size, ad, G, MQ below (QAi X ad s.heap.size G post) (as.map (cv ad)).toArray s mc ms (WA ad G.1 s.heap.size)) post ⟨B.exec, B.bytes, hml, findClass_of_methodNamed B.named, fun w h => hts w (List.mem_cons_of_mem _ h), rfl, hB, fun q h => Or.inr h, B.notSynchronized, hl⟩ rfl rfl ((name_of_methodNamed B.named B.method).1) ⟨Nat.le_refl _, fun k _ => ⟨rfl, rfl, rfl⟩⟩ ?_ hw
  · have hl2 := lv_entry (as.map (cv ad)) (n := nL) (by rw [lgl]; exact hn)
    rw [lg_entry_eq]
    rw [lva] at hl2
    exact key ad s.heap [] _ hW.self ⟨Nat.le_refl _, fun k _ => ⟨rfl, rfl, rfl⟩⟩ va_S.rf hl2
  · intro r G' M' pc lv kc ks hp hkc hks d ad' H lo ls h1 h2 h3 h4
    refine (W.widen hkc hks ?_)
    exact W.iret (v := r) B.exec B.bytes B.returns (fun t ht hW => ⟨⟨r, (ad', G', M'), rfl, ⟨hp, h2⟩, by dsimp only; rw [ht]; exact h1⟩, h3.F ht⟩) h3.2.2 d B.notSynchronized
theorem mk_xi {l : Launch} {y : MethodName} {cc : ByteArray} {nL mc ms : Nat} {rm : Room} {as : List Value} {G : GG} {M : MM} {wp : (Int32 → GG → MM → Prop) → PX → Prop} {X : XE} (hl : l.stackTraces = false) (hy : plainName y.cls = true) (hn : (lg_sl as).length ≤ nL) 
    (body : ∀ (E : EN) (post : Int32 → GG → MM → Prop) (postX : PX), CX E cc nL y.cls rm → E.l = l → E.X = X → E.meth.name = y.name → GX E.G0 E.ad0 G E.ad0 → E.c.exceptionTable.toList = [] → RAi E cc nL mc ms post → RXX E nL mc ms postX → wp post postX → WX E nL G M 0 0 (lv_args 0 as) [] 0) : MXi l X y (ws_ y cc nL (some .int)) rm mc ms as G M wp := by
  intro ad sz post postX
  refine vx_ofW (cc := cc) (maxL := nL) (ret := some .int) hy rfl ?_
  intro p e s m args below meth c s₁ B hml hnt hv
  obtain ⟨rfl, hsz, hW, hB, hok, hw⟩ := hv
  subst hsz
  have hts0 := atoms_spec (ws := ws_ y cc nL (some .int)) B.pre
  have hts := hts0
  have key := body (p, l, e, _, s, m, _, below, meth, c, X, WA ad G.1 s.heap.size, ad, G, vx_MQ below (QAi X ad s.heap.size G post) (XCx X ad s.heap.size G postX) (as.map (cv ad)).toArray s mc ms (WA ad G.1 s.heap.size)) post postX ⟨B.exec, B.bytes, hml, findClass_of_methodNamed B.named, fun w h => hts w (List.mem_cons_of_mem _ h), rfl, hB, fun q h => Or.inr h, B.notSynchronized, hl⟩ rfl rfl ((name_of_methodNamed B.named B.method).1) ⟨Nat.le_refl _, fun k _ => ⟨rfl, rfl, rfl⟩⟩ (by cases hq : c.exceptionTable.toList with | nil => rfl | cons z zs => exact (hnt z (by rw [hq]; exact List.mem_cons_self)).elim) ?_ ?_ hw
  · have hl2 := lv_entry (as.map (cv ad)) (n := nL) (by rw [lgl]; exact hn)
    rw [lg_entry_eq]
    rw [lva] at hl2
    exact key ad s.heap [] _ hW.self ⟨Nat.le_refl _, fun k _ => ⟨rfl, rfl, rfl⟩⟩ va_S.rf hl2
  · intro r G' M' pc lv kc ks hp hkc hks d ad' H lo ls h1 h2 h3 h4
    refine vx_ret (W.widen hkc hks ?_)
    exact W.iret (v := r) B.exec B.bytes B.returns (fun t ht hW => ⟨⟨r, (ad', G', M'), rfl, ⟨hp, h2⟩, by dsimp only; rw [ht]; exact h1⟩, h3.F ht⟩) h3.2.2 d B.notSynchronized
  · intro En v G' M' lv st pc kc ks hp hvo hvr hkc hks hout ad' H lo ls q ce h1 h2 h3 h4 hv hc hvm hcl
    exact vx_out hout B.notSynchronized hc hvm hcl (fun t ht hal => ⟨⟨v, (ad', G', M'), hp, hv, hvo, hvr, h2, by dsimp only; rw [ht]; exact h1⟩, h3.F ht⟩) h3.2.2 hkc hks
theorem mk_wi {l : Launch} {y : MethodName} {cc : ByteArray} {nL mc ms : Nat} {rm : Room} {as : List Value} {G : GG} {M : MM} {hh : List (Nat × Nat × Nat × Nat)} {wp : (Int32 → GG → MM → Prop) → PX → Prop} {X : XE} (hl : l.stackTraces = false) (hy : plainName y.cls = true) (hn : (lg_sl as).length ≤ nL) 
    (body : ∀ (E : EN) (post : Int32 → GG → MM → Prop) (postX : PX), CX E cc nL y.cls rm → E.l = l → E.X = X → E.meth.name = y.name → GX E.G0 E.ad0 G E.ad0 → E.c.exceptionTable.toList = tableOf hh → RAi E cc nL mc ms post → RXX E nL mc ms postX → wp post postX → WX E nL G M 0 0 (lv_args 0 as) [] 0) : MXi l X y (wsW_ y cc nL (some .int) hh) rm mc ms as G M wp := by
  intro ad sz post postX
  refine vx_ofWH (cc := cc) (maxL := nL) (ret := some .int) (hh := hh) hy rfl ?_
  intro p e s m args below meth c s₁ B hml hv
  obtain ⟨rfl, hsz, hW, hB, hok, hw⟩ := hv
  subst hsz
  have hts0 := atoms_spec (ws := wsW_ y cc nL (some .int) hh) B.pre
  have hts := hts0
  have key := body (p, l, e, _, s, m, _, below, meth, c, X, WA ad G.1 s.heap.size, ad, G, vx_MQ below (QAi X ad s.heap.size G post) (XCx X ad s.heap.size G postX) (as.map (cv ad)).toArray s mc ms (WA ad G.1 s.heap.size)) post postX ⟨B.exec, B.bytes, hml, findClass_of_methodNamed B.named, fun w h => hts w (List.mem_cons_of_mem _ h), rfl, hB, fun q h => Or.inr h, B.notSynchronized, hl⟩ rfl rfl ((name_of_methodNamed B.named B.method).1) ⟨Nat.le_refl _, fun k _ => ⟨rfl, rfl, rfl⟩⟩ (vx_table (x := y) B (hts0 _ List.mem_cons_self)) ?_ ?_ hw
  · have hl2 := lv_entry (as.map (cv ad)) (n := nL) (by rw [lgl]; exact hn)
    rw [lg_entry_eq]
    rw [lva] at hl2
    exact key ad s.heap [] _ hW.self ⟨Nat.le_refl _, fun k _ => ⟨rfl, rfl, rfl⟩⟩ va_S.rf hl2
  · intro r G' M' pc lv kc ks hp hkc hks d ad' H lo ls h1 h2 h3 h4
    refine vx_ret (W.widen hkc hks ?_)
    exact W.iret (v := r) B.exec B.bytes B.returns (fun t ht hW => ⟨⟨r, (ad', G', M'), rfl, ⟨hp, h2⟩, by dsimp only; rw [ht]; exact h1⟩, h3.F ht⟩) h3.2.2 d B.notSynchronized
  · intro En v G' M' lv st pc kc ks hp hvo hvr hkc hks hout ad' H lo ls q ce h1 h2 h3 h4 hv hc hvm hcl
    exact vx_out hout B.notSynchronized hc hvm hcl (fun t ht hal => ⟨⟨v, (ad', G', M'), hp, hv, hvo, hvr, h2, by dsimp only; rw [ht]; exact h1⟩, h3.F ht⟩) h3.2.2 hkc hks
theorem x_ai {E : EN} {cc : ByteArray} {nL : Nat} {own : String} {rm : Room} {G : GG} {M : MM} {kc ks : Nat} {lv : List (Nat × Value)} {st : List Value} {pc : Nat} {mc ms : Nat} {stk : List Value} {post : Int32 → GG → MM → Prop} (h : CX E cc nL own rm) (hr : RunN E nL G M kc ks mc ms lv stk st pc (fun ad sz => QAi E.X ad sz G post)) (hst : okS G.1 st) (hlv : okL G.1 lv) (k : ∀ (r : Int32) (G' : GG) (M' : MM), post r G' M' → GrG G G' → WX E nL G' M' (kc + mc) (ks + ms) lv (.int r :: st) (pc + 3)) : WX E nL G M kc ks lv stk pc := by
  intro ad H lo ls h1 h2 h3 h4
  have hFc := free_of h h1 h3
  obtain ⟨a, hrun⟩ := hr ad H lo ls h1 h2 h3 h4
  intro T hT X
  obtain ⟨v, st₀, t, T', L, e0, X', hL, e1, e2, ⟨⟨r, u, hv, ⟨hp, hg⟩, hb⟩, hF⟩, go⟩ := hrun T hT X
  · cases hv
    obtain ⟨k1, k2, k3⟩ := vx_keep e0 e1 h3 (fun q _ hh => hFc q hh) hFc hL hF
    have hB : World E.X E.A u.1 u.2.1 u.2.2 T'.heap := by rw [e1]; exact hb.weak hFc
    have he : ∀ k, k < G.1 → u.1 k = ad k := fun k hk => (hg.2 k hk).1
    have kk := k r u.2.1 u.2.2 hp hg.gr u.1 T'.heap (lo ++ L) ls hB (h2.trans hg) k3 (by rw [hlv.map he]; exact h4)
    rw [List.map_cons, hst.map he] at kk
    obtain ⟨t2, a1, b1⟩ := kk T' rfl X'
    exact ⟨t2, go t2 a1, b1⟩
theorem x_xi {E : EN} {cc : ByteArray} {nL : Nat} {own : String} {rm : Room} {G : GG} {M : MM} {kc ks : Nat} {lv : List (Nat × Value)} {st : List Value} {pc : Nat} {mc ms : Nat} {stk : List Value} {post : Int32 → GG → MM → Prop} {postX : PX} (h : CX E cc nL own rm) (hr : RunX E nL G M kc ks mc ms lv stk st pc (fun ad sz => QAi E.X ad sz G post) (fun ad sz => XCx E.X ad sz G postX)) (hst : okS G.1 st) (hlv : okL G.1 lv) (kx : ∀ (En : String) (v : Value) (G' : GG) (M' : MM), postX En v G' M' → GrG G G' → okv G'.1 v → rfk v → WXX E nL G' M' (kc + mc) (ks + ms) lv st pc En v) (k : ∀ (r : Int32) (G' : GG) (M' : MM), post r G' M' → GrG G G' → WX E nL G' M' (kc + mc) (ks + ms) lv (.int r :: st) (pc + 3)) : WX E nL G M kc ks lv stk pc := by
  intro ad H lo ls h1 h2 h3 h4
  have hFc := free_of h h1 h3
  obtain ⟨a, hrun⟩ := hr ad H lo ls h1 h2 h3 h4
  intro T hT X
  rcases hrun T hT X with ⟨v, st₀, t, T', L, e0, X', hL, e1, e2, ⟨⟨r, u, hv, ⟨hp, hg⟩, hb⟩, hF⟩, go⟩ | ⟨q, st₀, t, T', L, En, ce, e0, X', hL, e1, e2, ⟨⟨v, u, hp, hcv, hvo, hvr, hg, hb⟩, hF⟩, hce, hcm, hcl, go⟩
  · cases hv
    obtain ⟨k1, k2, k3⟩ := vx_keep e0 e1 h3 (fun q _ hh => hFc q hh) hFc hL hF
    have hB : World E.X E.A u.1 u.2.1 u.2.2 T'.heap := by rw [e1]; exact hb.weak hFc
    have he : ∀ k, k < G.1 → u.1 k = ad k := fun k hk => (hg.2 k hk).1
    have kk := k r u.2.1 u.2.2 hp hg.gr u.1 T'.heap (lo ++ L) ls hB (h2.trans hg) k3 (by rw [hlv.map he]; exact h4)
    rw [List.map_cons, hst.map he] at kk
    obtain ⟨t2, a1, b1⟩ := kk T' rfl X'
    exact ⟨t2, go t2 a1, b1⟩
  · obtain ⟨k1, k2, k3⟩ := vx_keep e0 e1 h3 (fun q _ hh => hFc q hh) hFc hL hF
    have hB : World E.X E.A u.1 u.2.1 u.2.2 T'.heap := by rw [e1]; exact hb.weak hFc
    have he : ∀ k, k < G.1 → u.1 k = ad k := fun k hk => (hg.2 k hk).1
    have kk := kx En v u.2.1 u.2.2 hp hg.gr hvo hvr u.1 T'.heap (lo ++ L) ls q ce hB (h2.trans hg) k3 (by rw [hlv.map he]; exact h4) hcv (by rw [e1]; exact hce) hcm hcl
    rw [hst.map he] at kk
    obtain ⟨t2, a1, b1⟩ := kk T' rfl X'
    exact ⟨t2, go.trans a1, b1⟩
def QAz (X : XE) (ad : Nat → Nat) (sz : Nat) (G : GG) (post : Int32 → GG → MM → Prop) : Array Value → State → Outcome → State → Prop := va_Qi (fun (r : Int32) (u : SA) => post r u.2.1 u.2.2 ∧ GX G ad u.2.1 u.1) (fun u t => World X (WA ad G.1 sz) u.1 u.2.1 u.2.2 t.heap) (WA ad G.1 sz)
def MAz (l : Launch) (X : XE) (y : MethodName) (ws : List Cond) (rm : Room) (mc ms : Nat) (as : List Value) (G : GG) (M : MM) (wp : (Int32 → GG → MM → Prop) → Prop) : Prop := ∀ (ad : Nat → Nat) (sz : Nat) (post : Int32 → GG → MM → Prop), Met l y ws rm (PCX X ad sz G M as (wp post)) (QAz X ad sz G post) mc ms (WA ad G.1 sz)
def MXz (l : Launch) (X : XE) (y : MethodName) (ws : List Cond) (rm : Room) (mc ms : Nat) (as : List Value) (G : GG) (M : MM) (wp : (Int32 → GG → MM → Prop) → PX → Prop) : Prop := ∀ (ad : Nat → Nat) (sz : Nat) (post : Int32 → GG → MM → Prop) (postX : PX), vx_Met l y ws rm (PCX X ad sz G M as (wp post postX)) (QAz X ad sz G post) (XCx X ad sz G postX) mc ms (WA ad G.1 sz)
def RAz (E : EN) (cc : ByteArray) (nL mc ms : Nat) (post : Int32 → GG → MM → Prop) : Prop := ∀ (r : Int32) (G : GG) (M : MM) (pc : Nat) (lv : List (Nat × Value)) (kc ks : Nat), post r G M → kc ≤ mc → ks ≤ ms → narrow .boolean (.int r) = .int r → decode cc pc = .ok (.ireturn, 1) → WX E nL G M kc ks lv [.int r] pc
theorem mk_az {l : Launch} {y : MethodName} {cc : ByteArray} {nL mc ms : Nat} {rm : Room} {as : List Value} {G : GG} {M : MM} {wp : (Int32 → GG → MM → Prop) → Prop} {X : XE} (hl : l.stackTraces = false) (hy : plainName y.cls = true) (hn : (lg_sl as).length ≤ nL) 
    (body : ∀ (E : EN) (post : Int32 → GG → MM → Prop), CX E cc nL y.cls rm → E.l = l → E.X = X → E.meth.name = y.name → GX E.G0 E.ad0 G E.ad0 → RAz E cc nL mc ms post → wp post → WX E nL G M 0 0 (lv_args 0 as) [] 0) : MAz l X y (ws_ y cc nL (some .boolean)) rm mc ms as G M wp := by
  intro ad sz post
  refine Met.ofW (cc := cc) (maxL := nL) (ret := some .boolean) hy rfl ?_
  intro p e s m args below meth c s₁ B hml hv
  obtain ⟨rfl, hsz, hW, hB, hok, hw⟩ := hv
  subst hsz
  have hts0 := atoms_spec (ws := ws_ y cc nL (some .boolean)) B.pre
  have hts := hts0
  have key := body (p, l, e, _, s, m, _, below, meth, c, X, WA ad G.1 s.heap.size, ad, G, MQ below (QAz X ad s.heap.size G post) (as.map (cv ad)).toArray s mc ms (WA ad G.1 s.heap.size)) post ⟨B.exec, B.bytes, hml, findClass_of_methodNamed B.named, fun w h => hts w (List.mem_cons_of_mem _ h), rfl, hB, fun q h => Or.inr h, B.notSynchronized, hl⟩ rfl rfl ((name_of_methodNamed B.named B.method).1) ⟨Nat.le_refl _, fun k _ => ⟨rfl, rfl, rfl⟩⟩ ?_ hw
  · have hl2 := lv_entry (as.map (cv ad)) (n := nL) (by rw [lgl]; exact hn)
    rw [lg_entry_eq]
    rw [lva] at hl2
    exact key ad s.heap [] _ hW.self ⟨Nat.le_refl _, fun k _ => ⟨rfl, rfl, rfl⟩⟩ va_S.rf hl2
  · intro r G' M' pc lv kc ks hp hkc hks hn d ad' H lo ls h1 h2 h3 h4
    refine (W.widen hkc hks ?_)
    exact W.zret (v := r) B.exec B.bytes B.returns hn (fun t ht hW => ⟨⟨r, (ad', G', M'), rfl, ⟨hp, h2⟩, by dsimp only; rw [ht]; exact h1⟩, h3.F ht⟩) h3.2.2 d B.notSynchronized
theorem mk_xz {l : Launch} {y : MethodName} {cc : ByteArray} {nL mc ms : Nat} {rm : Room} {as : List Value} {G : GG} {M : MM} {wp : (Int32 → GG → MM → Prop) → PX → Prop} {X : XE} (hl : l.stackTraces = false) (hy : plainName y.cls = true) (hn : (lg_sl as).length ≤ nL) 
    (body : ∀ (E : EN) (post : Int32 → GG → MM → Prop) (postX : PX), CX E cc nL y.cls rm → E.l = l → E.X = X → E.meth.name = y.name → GX E.G0 E.ad0 G E.ad0 → E.c.exceptionTable.toList = [] → RAz E cc nL mc ms post → RXX E nL mc ms postX → wp post postX → WX E nL G M 0 0 (lv_args 0 as) [] 0) : MXz l X y (ws_ y cc nL (some .boolean)) rm mc ms as G M wp := by
  intro ad sz post postX
  refine vx_ofW (cc := cc) (maxL := nL) (ret := some .boolean) hy rfl ?_
  intro p e s m args below meth c s₁ B hml hnt hv
  obtain ⟨rfl, hsz, hW, hB, hok, hw⟩ := hv
  subst hsz
  have hts0 := atoms_spec (ws := ws_ y cc nL (some .boolean)) B.pre
  have hts := hts0
  have key := body (p, l, e, _, s, m, _, below, meth, c, X, WA ad G.1 s.heap.size, ad, G, vx_MQ below (QAz X ad s.heap.size G post) (XCx X ad s.heap.size G postX) (as.map (cv ad)).toArray s mc ms (WA ad G.1 s.heap.size)) post postX ⟨B.exec, B.bytes, hml, findClass_of_methodNamed B.named, fun w h => hts w (List.mem_cons_of_mem _ h), rfl, hB, fun q h => Or.inr h, B.notSynchronized, hl⟩ rfl rfl ((name_of_methodNamed B.named B.method).1) ⟨Nat.le_refl _, fun k _ => ⟨rfl, rfl, rfl⟩⟩ (by cases hq : c.exceptionTable.toList with | nil => rfl | cons z zs => exact (hnt z (by rw [hq]; exact List.mem_cons_self)).elim) ?_ ?_ hw
  · have hl2 := lv_entry (as.map (cv ad)) (n := nL) (by rw [lgl]; exact hn)
    rw [lg_entry_eq]
    rw [lva] at hl2
    exact key ad s.heap [] _ hW.self ⟨Nat.le_refl _, fun k _ => ⟨rfl, rfl, rfl⟩⟩ va_S.rf hl2
  · intro r G' M' pc lv kc ks hp hkc hks hn d ad' H lo ls h1 h2 h3 h4
    refine vx_ret (W.widen hkc hks ?_)
    exact W.zret (v := r) B.exec B.bytes B.returns hn (fun t ht hW => ⟨⟨r, (ad', G', M'), rfl, ⟨hp, h2⟩, by dsimp only; rw [ht]; exact h1⟩, h3.F ht⟩) h3.2.2 d B.notSynchronized
  · intro En v G' M' lv st pc kc ks hp hvo hvr hkc hks hout ad' H lo ls q ce h1 h2 h3 h4 hv hc hvm hcl
    exact vx_out hout B.notSynchronized hc hvm hcl (fun t ht hal => ⟨⟨v, (ad', G', M'), hp, hv, hvo, hvr, h2, by dsimp only; rw [ht]; exact h1⟩, h3.F ht⟩) h3.2.2 hkc hks
theorem mk_wz {l : Launch} {y : MethodName} {cc : ByteArray} {nL mc ms : Nat} {rm : Room} {as : List Value} {G : GG} {M : MM} {hh : List (Nat × Nat × Nat × Nat)} {wp : (Int32 → GG → MM → Prop) → PX → Prop} {X : XE} (hl : l.stackTraces = false) (hy : plainName y.cls = true) (hn : (lg_sl as).length ≤ nL) 
    (body : ∀ (E : EN) (post : Int32 → GG → MM → Prop) (postX : PX), CX E cc nL y.cls rm → E.l = l → E.X = X → E.meth.name = y.name → GX E.G0 E.ad0 G E.ad0 → E.c.exceptionTable.toList = tableOf hh → RAz E cc nL mc ms post → RXX E nL mc ms postX → wp post postX → WX E nL G M 0 0 (lv_args 0 as) [] 0) : MXz l X y (wsW_ y cc nL (some .boolean) hh) rm mc ms as G M wp := by
  intro ad sz post postX
  refine vx_ofWH (cc := cc) (maxL := nL) (ret := some .boolean) (hh := hh) hy rfl ?_
  intro p e s m args below meth c s₁ B hml hv
  obtain ⟨rfl, hsz, hW, hB, hok, hw⟩ := hv
  subst hsz
  have hts0 := atoms_spec (ws := wsW_ y cc nL (some .boolean) hh) B.pre
  have hts := hts0
  have key := body (p, l, e, _, s, m, _, below, meth, c, X, WA ad G.1 s.heap.size, ad, G, vx_MQ below (QAz X ad s.heap.size G post) (XCx X ad s.heap.size G postX) (as.map (cv ad)).toArray s mc ms (WA ad G.1 s.heap.size)) post postX ⟨B.exec, B.bytes, hml, findClass_of_methodNamed B.named, fun w h => hts w (List.mem_cons_of_mem _ h), rfl, hB, fun q h => Or.inr h, B.notSynchronized, hl⟩ rfl rfl ((name_of_methodNamed B.named B.method).1) ⟨Nat.le_refl _, fun k _ => ⟨rfl, rfl, rfl⟩⟩ (vx_table (x := y) B (hts0 _ List.mem_cons_self)) ?_ ?_ hw
  · have hl2 := lv_entry (as.map (cv ad)) (n := nL) (by rw [lgl]; exact hn)
    rw [lg_entry_eq]
    rw [lva] at hl2
    exact key ad s.heap [] _ hW.self ⟨Nat.le_refl _, fun k _ => ⟨rfl, rfl, rfl⟩⟩ va_S.rf hl2
  · intro r G' M' pc lv kc ks hp hkc hks hn d ad' H lo ls h1 h2 h3 h4
    refine vx_ret (W.widen hkc hks ?_)
    exact W.zret (v := r) B.exec B.bytes B.returns hn (fun t ht hW => ⟨⟨r, (ad', G', M'), rfl, ⟨hp, h2⟩, by dsimp only; rw [ht]; exact h1⟩, h3.F ht⟩) h3.2.2 d B.notSynchronized
  · intro En v G' M' lv st pc kc ks hp hvo hvr hkc hks hout ad' H lo ls q ce h1 h2 h3 h4 hv hc hvm hcl
    exact vx_out hout B.notSynchronized hc hvm hcl (fun t ht hal => ⟨⟨v, (ad', G', M'), hp, hv, hvo, hvr, h2, by dsimp only; rw [ht]; exact h1⟩, h3.F ht⟩) h3.2.2 hkc hks
theorem x_az {E : EN} {cc : ByteArray} {nL : Nat} {own : String} {rm : Room} {G : GG} {M : MM} {kc ks : Nat} {lv : List (Nat × Value)} {st : List Value} {pc : Nat} {mc ms : Nat} {stk : List Value} {post : Int32 → GG → MM → Prop} (h : CX E cc nL own rm) (hr : RunN E nL G M kc ks mc ms lv stk st pc (fun ad sz => QAz E.X ad sz G post)) (hst : okS G.1 st) (hlv : okL G.1 lv) (k : ∀ (r : Int32) (G' : GG) (M' : MM), post r G' M' → GrG G G' → WX E nL G' M' (kc + mc) (ks + ms) lv (.int r :: st) (pc + 3)) : WX E nL G M kc ks lv stk pc := by
  intro ad H lo ls h1 h2 h3 h4
  have hFc := free_of h h1 h3
  obtain ⟨a, hrun⟩ := hr ad H lo ls h1 h2 h3 h4
  intro T hT X
  obtain ⟨v, st₀, t, T', L, e0, X', hL, e1, e2, ⟨⟨r, u, hv, ⟨hp, hg⟩, hb⟩, hF⟩, go⟩ := hrun T hT X
  · cases hv
    obtain ⟨k1, k2, k3⟩ := vx_keep e0 e1 h3 (fun q _ hh => hFc q hh) hFc hL hF
    have hB : World E.X E.A u.1 u.2.1 u.2.2 T'.heap := by rw [e1]; exact hb.weak hFc
    have he : ∀ k, k < G.1 → u.1 k = ad k := fun k hk => (hg.2 k hk).1
    have kk := k r u.2.1 u.2.2 hp hg.gr u.1 T'.heap (lo ++ L) ls hB (h2.trans hg) k3 (by rw [hlv.map he]; exact h4)
    rw [List.map_cons, hst.map he] at kk
    obtain ⟨t2, a1, b1⟩ := kk T' rfl X'
    exact ⟨t2, go t2 a1, b1⟩
theorem x_xz {E : EN} {cc : ByteArray} {nL : Nat} {own : String} {rm : Room} {G : GG} {M : MM} {kc ks : Nat} {lv : List (Nat × Value)} {st : List Value} {pc : Nat} {mc ms : Nat} {stk : List Value} {post : Int32 → GG → MM → Prop} {postX : PX} (h : CX E cc nL own rm) (hr : RunX E nL G M kc ks mc ms lv stk st pc (fun ad sz => QAz E.X ad sz G post) (fun ad sz => XCx E.X ad sz G postX)) (hst : okS G.1 st) (hlv : okL G.1 lv) (kx : ∀ (En : String) (v : Value) (G' : GG) (M' : MM), postX En v G' M' → GrG G G' → okv G'.1 v → rfk v → WXX E nL G' M' (kc + mc) (ks + ms) lv st pc En v) (k : ∀ (r : Int32) (G' : GG) (M' : MM), post r G' M' → GrG G G' → WX E nL G' M' (kc + mc) (ks + ms) lv (.int r :: st) (pc + 3)) : WX E nL G M kc ks lv stk pc := by
  intro ad H lo ls h1 h2 h3 h4
  have hFc := free_of h h1 h3
  obtain ⟨a, hrun⟩ := hr ad H lo ls h1 h2 h3 h4
  intro T hT X
  rcases hrun T hT X with ⟨v, st₀, t, T', L, e0, X', hL, e1, e2, ⟨⟨r, u, hv, ⟨hp, hg⟩, hb⟩, hF⟩, go⟩ | ⟨q, st₀, t, T', L, En, ce, e0, X', hL, e1, e2, ⟨⟨v, u, hp, hcv, hvo, hvr, hg, hb⟩, hF⟩, hce, hcm, hcl, go⟩
  · cases hv
    obtain ⟨k1, k2, k3⟩ := vx_keep e0 e1 h3 (fun q _ hh => hFc q hh) hFc hL hF
    have hB : World E.X E.A u.1 u.2.1 u.2.2 T'.heap := by rw [e1]; exact hb.weak hFc
    have he : ∀ k, k < G.1 → u.1 k = ad k := fun k hk => (hg.2 k hk).1
    have kk := k r u.2.1 u.2.2 hp hg.gr u.1 T'.heap (lo ++ L) ls hB (h2.trans hg) k3 (by rw [hlv.map he]; exact h4)
    rw [List.map_cons, hst.map he] at kk
    obtain ⟨t2, a1, b1⟩ := kk T' rfl X'
    exact ⟨t2, go t2 a1, b1⟩
  · obtain ⟨k1, k2, k3⟩ := vx_keep e0 e1 h3 (fun q _ hh => hFc q hh) hFc hL hF
    have hB : World E.X E.A u.1 u.2.1 u.2.2 T'.heap := by rw [e1]; exact hb.weak hFc
    have he : ∀ k, k < G.1 → u.1 k = ad k := fun k hk => (hg.2 k hk).1
    have kk := kx En v u.2.1 u.2.2 hp hg.gr hvo hvr u.1 T'.heap (lo ++ L) ls q ce hB (h2.trans hg) k3 (by rw [hlv.map he]; exact h4) hcv (by rw [e1]; exact hce) hcm hcl
    rw [hst.map he] at kk
    obtain ⟨t2, a1, b1⟩ := kk T' rfl X'
    exact ⟨t2, go.trans a1, b1⟩
def QAv (X : XE) (ad : Nat → Nat) (sz : Nat) (G : GG) (post : GG → MM → Prop) : Array Value → State → Outcome → State → Prop := va_Qv (fun (u : SA) => post u.2.1 u.2.2 ∧ GX G ad u.2.1 u.1) (fun u t => World X (WA ad G.1 sz) u.1 u.2.1 u.2.2 t.heap) (WA ad G.1 sz)
def MAv (l : Launch) (X : XE) (y : MethodName) (ws : List Cond) (rm : Room) (mc ms : Nat) (as : List Value) (G : GG) (M : MM) (wp : (GG → MM → Prop) → Prop) : Prop := ∀ (ad : Nat → Nat) (sz : Nat) (post : GG → MM → Prop), Met l y ws rm (PCX X ad sz G M as (wp post)) (QAv X ad sz G post) mc ms (WA ad G.1 sz)
def MXv (l : Launch) (X : XE) (y : MethodName) (ws : List Cond) (rm : Room) (mc ms : Nat) (as : List Value) (G : GG) (M : MM) (wp : (GG → MM → Prop) → PX → Prop) : Prop := ∀ (ad : Nat → Nat) (sz : Nat) (post : GG → MM → Prop) (postX : PX), vx_Met l y ws rm (PCX X ad sz G M as (wp post postX)) (QAv X ad sz G post) (XCx X ad sz G postX) mc ms (WA ad G.1 sz)
def RAv (E : EN) (cc : ByteArray) (nL mc ms : Nat) (post : GG → MM → Prop) : Prop := ∀ (G : GG) (M : MM) (pc : Nat) (lv : List (Nat × Value)) (kc ks : Nat), post G M → kc ≤ mc → ks ≤ ms → decode cc pc = .ok (.return_, 1) → WX E nL G M kc ks lv [] pc
theorem mk_av {l : Launch} {y : MethodName} {cc : ByteArray} {nL mc ms : Nat} {rm : Room} {as : List Value} {G : GG} {M : MM} {wp : (GG → MM → Prop) → Prop} {X : XE} (hl : l.stackTraces = false) (hy : plainName y.cls = true) (hn : (lg_sl as).length ≤ nL) 
    (body : ∀ (E : EN) (post : GG → MM → Prop), CX E cc nL y.cls rm → E.l = l → E.X = X → E.meth.name = y.name → GX E.G0 E.ad0 G E.ad0 → RAv E cc nL mc ms post → wp post → WX E nL G M 0 0 (lv_args 0 as) [] 0) : MAv l X y (ws_ y cc nL (none)) rm mc ms as G M wp := by
  intro ad sz post
  refine Met.ofW (cc := cc) (maxL := nL) (ret := none) hy rfl ?_
  intro p e s m args below meth c s₁ B hml hv
  obtain ⟨rfl, hsz, hW, hB, hok, hw⟩ := hv
  subst hsz
  have hts0 := atoms_spec (ws := ws_ y cc nL (none)) B.pre
  have hts := hts0
  have key := body (p, l, e, _, s, m, _, below, meth, c, X, WA ad G.1 s.heap.size, ad, G, MQ below (QAv X ad s.heap.size G post) (as.map (cv ad)).toArray s mc ms (WA ad G.1 s.heap.size)) post ⟨B.exec, B.bytes, hml, findClass_of_methodNamed B.named, fun w h => hts w (List.mem_cons_of_mem _ h), rfl, hB, fun q h => Or.inr h, B.notSynchronized, hl⟩ rfl rfl ((name_of_methodNamed B.named B.method).1) ⟨Nat.le_refl _, fun k _ => ⟨rfl, rfl, rfl⟩⟩ ?_ hw
  · have hl2 := lv_entry (as.map (cv ad)) (n := nL) (by rw [lgl]; exact hn)
    rw [lg_entry_eq]
    rw [lva] at hl2
    exact key ad s.heap [] _ hW.self ⟨Nat.le_refl _, fun k _ => ⟨rfl, rfl, rfl⟩⟩ va_S.rf hl2
  · intro G' M' pc lv kc ks hp hkc hks d ad' H lo ls h1 h2 h3 h4
    refine (W.widen hkc hks ?_)
    exact W.vret B.exec B.bytes B.returns (fun t ht hW => ⟨⟨(ad', G', M'), rfl, ⟨hp, h2⟩, by dsimp only; rw [ht]; exact h1⟩, h3.F ht⟩) h3.2.2 d B.notSynchronized
theorem mk_xv {l : Launch} {y : MethodName} {cc : ByteArray} {nL mc ms : Nat} {rm : Room} {as : List Value} {G : GG} {M : MM} {wp : (GG → MM → Prop) → PX → Prop} {X : XE} (hl : l.stackTraces = false) (hy : plainName y.cls = true) (hn : (lg_sl as).length ≤ nL) 
    (body : ∀ (E : EN) (post : GG → MM → Prop) (postX : PX), CX E cc nL y.cls rm → E.l = l → E.X = X → E.meth.name = y.name → GX E.G0 E.ad0 G E.ad0 → E.c.exceptionTable.toList = [] → RAv E cc nL mc ms post → RXX E nL mc ms postX → wp post postX → WX E nL G M 0 0 (lv_args 0 as) [] 0) : MXv l X y (ws_ y cc nL (none)) rm mc ms as G M wp := by
  intro ad sz post postX
  refine vx_ofW (cc := cc) (maxL := nL) (ret := none) hy rfl ?_
  intro p e s m args below meth c s₁ B hml hnt hv
  obtain ⟨rfl, hsz, hW, hB, hok, hw⟩ := hv
  subst hsz
  have hts0 := atoms_spec (ws := ws_ y cc nL (none)) B.pre
  have hts := hts0
  have key := body (p, l, e, _, s, m, _, below, meth, c, X, WA ad G.1 s.heap.size, ad, G, vx_MQ below (QAv X ad s.heap.size G post) (XCx X ad s.heap.size G postX) (as.map (cv ad)).toArray s mc ms (WA ad G.1 s.heap.size)) post postX ⟨B.exec, B.bytes, hml, findClass_of_methodNamed B.named, fun w h => hts w (List.mem_cons_of_mem _ h), rfl, hB, fun q h => Or.inr h, B.notSynchronized, hl⟩ rfl rfl ((name_of_methodNamed B.named B.method).1) ⟨Nat.le_refl _, fun k _ => ⟨rfl, rfl, rfl⟩⟩ (by cases hq : c.exceptionTable.toList with | nil => rfl | cons z zs => exact (hnt z (by rw [hq]; exact List.mem_cons_self)).elim) ?_ ?_ hw
  · have hl2 := lv_entry (as.map (cv ad)) (n := nL) (by rw [lgl]; exact hn)
    rw [lg_entry_eq]
    rw [lva] at hl2
    exact key ad s.heap [] _ hW.self ⟨Nat.le_refl _, fun k _ => ⟨rfl, rfl, rfl⟩⟩ va_S.rf hl2
  · intro G' M' pc lv kc ks hp hkc hks d ad' H lo ls h1 h2 h3 h4
    refine vx_ret (W.widen hkc hks ?_)
    exact W.vret B.exec B.bytes B.returns (fun t ht hW => ⟨⟨(ad', G', M'), rfl, ⟨hp, h2⟩, by dsimp only; rw [ht]; exact h1⟩, h3.F ht⟩) h3.2.2 d B.notSynchronized
  · intro En v G' M' lv st pc kc ks hp hvo hvr hkc hks hout ad' H lo ls q ce h1 h2 h3 h4 hv hc hvm hcl
    exact vx_out hout B.notSynchronized hc hvm hcl (fun t ht hal => ⟨⟨v, (ad', G', M'), hp, hv, hvo, hvr, h2, by dsimp only; rw [ht]; exact h1⟩, h3.F ht⟩) h3.2.2 hkc hks
theorem mk_wv {l : Launch} {y : MethodName} {cc : ByteArray} {nL mc ms : Nat} {rm : Room} {as : List Value} {G : GG} {M : MM} {hh : List (Nat × Nat × Nat × Nat)} {wp : (GG → MM → Prop) → PX → Prop} {X : XE} (hl : l.stackTraces = false) (hy : plainName y.cls = true) (hn : (lg_sl as).length ≤ nL) 
    (body : ∀ (E : EN) (post : GG → MM → Prop) (postX : PX), CX E cc nL y.cls rm → E.l = l → E.X = X → E.meth.name = y.name → GX E.G0 E.ad0 G E.ad0 → E.c.exceptionTable.toList = tableOf hh → RAv E cc nL mc ms post → RXX E nL mc ms postX → wp post postX → WX E nL G M 0 0 (lv_args 0 as) [] 0) : MXv l X y (wsW_ y cc nL (none) hh) rm mc ms as G M wp := by
  intro ad sz post postX
  refine vx_ofWH (cc := cc) (maxL := nL) (ret := none) (hh := hh) hy rfl ?_
  intro p e s m args below meth c s₁ B hml hv
  obtain ⟨rfl, hsz, hW, hB, hok, hw⟩ := hv
  subst hsz
  have hts0 := atoms_spec (ws := wsW_ y cc nL (none) hh) B.pre
  have hts := hts0
  have key := body (p, l, e, _, s, m, _, below, meth, c, X, WA ad G.1 s.heap.size, ad, G, vx_MQ below (QAv X ad s.heap.size G post) (XCx X ad s.heap.size G postX) (as.map (cv ad)).toArray s mc ms (WA ad G.1 s.heap.size)) post postX ⟨B.exec, B.bytes, hml, findClass_of_methodNamed B.named, fun w h => hts w (List.mem_cons_of_mem _ h), rfl, hB, fun q h => Or.inr h, B.notSynchronized, hl⟩ rfl rfl ((name_of_methodNamed B.named B.method).1) ⟨Nat.le_refl _, fun k _ => ⟨rfl, rfl, rfl⟩⟩ (vx_table (x := y) B (hts0 _ List.mem_cons_self)) ?_ ?_ hw
  · have hl2 := lv_entry (as.map (cv ad)) (n := nL) (by rw [lgl]; exact hn)
    rw [lg_entry_eq]
    rw [lva] at hl2
    exact key ad s.heap [] _ hW.self ⟨Nat.le_refl _, fun k _ => ⟨rfl, rfl, rfl⟩⟩ va_S.rf hl2
  · intro G' M' pc lv kc ks hp hkc hks d ad' H lo ls h1 h2 h3 h4
    refine vx_ret (W.widen hkc hks ?_)
    exact W.vret B.exec B.bytes B.returns (fun t ht hW => ⟨⟨(ad', G', M'), rfl, ⟨hp, h2⟩, by dsimp only; rw [ht]; exact h1⟩, h3.F ht⟩) h3.2.2 d B.notSynchronized
  · intro En v G' M' lv st pc kc ks hp hvo hvr hkc hks hout ad' H lo ls q ce h1 h2 h3 h4 hv hc hvm hcl
    exact vx_out hout B.notSynchronized hc hvm hcl (fun t ht hal => ⟨⟨v, (ad', G', M'), hp, hv, hvo, hvr, h2, by dsimp only; rw [ht]; exact h1⟩, h3.F ht⟩) h3.2.2 hkc hks
theorem x_av {E : EN} {cc : ByteArray} {nL : Nat} {own : String} {rm : Room} {G : GG} {M : MM} {kc ks : Nat} {lv : List (Nat × Value)} {st : List Value} {pc : Nat} {mc ms : Nat} {stk : List Value} {post : GG → MM → Prop} (h : CX E cc nL own rm) (hr : RunN E nL G M kc ks mc ms lv stk st pc (fun ad sz => QAv E.X ad sz G post)) (hst : okS G.1 st) (hlv : okL G.1 lv) (k : ∀ (G' : GG) (M' : MM), post G' M' → GrG G G' → WX E nL G' M' (kc + mc) (ks + ms) lv (st) (pc + 3)) : WX E nL G M kc ks lv stk pc := by
  intro ad H lo ls h1 h2 h3 h4
  have hFc := free_of h h1 h3
  obtain ⟨a, hrun⟩ := hr ad H lo ls h1 h2 h3 h4
  intro T hT X
  obtain ⟨v, st₀, t, T', L, e0, X', hL, e1, e2, ⟨⟨u, hv, ⟨hp, hg⟩, hb⟩, hF⟩, go⟩ := hrun T hT X
  · cases hv
    obtain ⟨k1, k2, k3⟩ := vx_keep e0 e1 h3 (fun q _ hh => hFc q hh) hFc hL hF
    have hB : World E.X E.A u.1 u.2.1 u.2.2 T'.heap := by rw [e1]; exact hb.weak hFc
    have he : ∀ k, k < G.1 → u.1 k = ad k := fun k hk => (hg.2 k hk).1
    have kk := k u.2.1 u.2.2 hp hg.gr u.1 T'.heap (lo ++ L) ls hB (h2.trans hg) k3 (by rw [hlv.map he]; exact h4)
    rw [hst.map he] at kk
    obtain ⟨t2, a1, b1⟩ := kk T' rfl X'
    exact ⟨t2, go t2 a1, b1⟩
theorem x_xv {E : EN} {cc : ByteArray} {nL : Nat} {own : String} {rm : Room} {G : GG} {M : MM} {kc ks : Nat} {lv : List (Nat × Value)} {st : List Value} {pc : Nat} {mc ms : Nat} {stk : List Value} {post : GG → MM → Prop} {postX : PX} (h : CX E cc nL own rm) (hr : RunX E nL G M kc ks mc ms lv stk st pc (fun ad sz => QAv E.X ad sz G post) (fun ad sz => XCx E.X ad sz G postX)) (hst : okS G.1 st) (hlv : okL G.1 lv) (kx : ∀ (En : String) (v : Value) (G' : GG) (M' : MM), postX En v G' M' → GrG G G' → okv G'.1 v → rfk v → WXX E nL G' M' (kc + mc) (ks + ms) lv st pc En v) (k : ∀ (G' : GG) (M' : MM), post G' M' → GrG G G' → WX E nL G' M' (kc + mc) (ks + ms) lv (st) (pc + 3)) : WX E nL G M kc ks lv stk pc := by
  intro ad H lo ls h1 h2 h3 h4
  have hFc := free_of h h1 h3
  obtain ⟨a, hrun⟩ := hr ad H lo ls h1 h2 h3 h4
  intro T hT X
  rcases hrun T hT X with ⟨v, st₀, t, T', L, e0, X', hL, e1, e2, ⟨⟨u, hv, ⟨hp, hg⟩, hb⟩, hF⟩, go⟩ | ⟨q, st₀, t, T', L, En, ce, e0, X', hL, e1, e2, ⟨⟨v, u, hp, hcv, hvo, hvr, hg, hb⟩, hF⟩, hce, hcm, hcl, go⟩
  · cases hv
    obtain ⟨k1, k2, k3⟩ := vx_keep e0 e1 h3 (fun q _ hh => hFc q hh) hFc hL hF
    have hB : World E.X E.A u.1 u.2.1 u.2.2 T'.heap := by rw [e1]; exact hb.weak hFc
    have he : ∀ k, k < G.1 → u.1 k = ad k := fun k hk => (hg.2 k hk).1
    have kk := k u.2.1 u.2.2 hp hg.gr u.1 T'.heap (lo ++ L) ls hB (h2.trans hg) k3 (by rw [hlv.map he]; exact h4)
    rw [hst.map he] at kk
    obtain ⟨t2, a1, b1⟩ := kk T' rfl X'
    exact ⟨t2, go t2 a1, b1⟩
  · obtain ⟨k1, k2, k3⟩ := vx_keep e0 e1 h3 (fun q _ hh => hFc q hh) hFc hL hF
    have hB : World E.X E.A u.1 u.2.1 u.2.2 T'.heap := by rw [e1]; exact hb.weak hFc
    have he : ∀ k, k < G.1 → u.1 k = ad k := fun k hk => (hg.2 k hk).1
    have kk := kx En v u.2.1 u.2.2 hp hg.gr hvo hvr u.1 T'.heap (lo ++ L) ls q ce hB (h2.trans hg) k3 (by rw [hlv.map he]; exact h4) hcv (by rw [e1]; exact hce) hcm hcl
    rw [hst.map he] at kk
    obtain ⟨t2, a1, b1⟩ := kk T' rfl X'
    exact ⟨t2, go.trans a1, b1⟩
def QAq (X : XE) (ad : Nat → Nat) (sz : Nat) (G : GG) (post : Value → GG → MM → Prop) : Array Value → State → Outcome → State → Prop := va_Qq (fun (r : Option Nat) (u : Value × SA) => r = rfo u.2.1 u.1 ∧ rfk u.1 ∧ okv u.2.2.1.1 u.1 ∧ post u.1 u.2.2.1 u.2.2.2 ∧ GX G ad u.2.2.1 u.2.1) (fun u t => World X (WA ad G.1 sz) u.2.1 u.2.2.1 u.2.2.2 t.heap) (WA ad G.1 sz)
def MAq (l : Launch) (X : XE) (y : MethodName) (ws : List Cond) (rm : Room) (mc ms : Nat) (as : List Value) (G : GG) (M : MM) (wp : (Value → GG → MM → Prop) → Prop) : Prop := ∀ (ad : Nat → Nat) (sz : Nat) (post : Value → GG → MM → Prop), Met l y ws rm (PCX X ad sz G M as (wp post)) (QAq X ad sz G post) mc ms (WA ad G.1 sz)
def MXq (l : Launch) (X : XE) (y : MethodName) (ws : List Cond) (rm : Room) (mc ms : Nat) (as : List Value) (G : GG) (M : MM) (wp : (Value → GG → MM → Prop) → PX → Prop) : Prop := ∀ (ad : Nat → Nat) (sz : Nat) (post : Value → GG → MM → Prop) (postX : PX), vx_Met l y ws rm (PCX X ad sz G M as (wp post postX)) (QAq X ad sz G post) (XCx X ad sz G postX) mc ms (WA ad G.1 sz)
def RAq (E : EN) (cc : ByteArray) (nL mc ms : Nat) (post : Value → GG → MM → Prop) : Prop := ∀ (r : Value) (G : GG) (M : MM) (pc : Nat) (lv : List (Nat × Value)) (kc ks : Nat), post r G M → kc ≤ mc → ks ≤ ms → rfk r → okv G.1 r → decode cc pc = .ok (.areturn, 1) → WX E nL G M kc ks lv [r] pc
theorem mk_aq {l : Launch} {y : MethodName} {cc : ByteArray} {nL mc ms : Nat} {rm : Room} {as : List Value} {G : GG} {M : MM} {wp : (Value → GG → MM → Prop) → Prop} {X : XE} {rt : FieldType} (hl : l.stackTraces = false) (hy : plainName y.cls = true) (hn : (lg_sl as).length ≤ nL) (hrt : (∃ n, rt = .object n) ∨ ∃ t, rt = .array t) 
    (body : ∀ (E : EN) (post : Value → GG → MM → Prop), CX E cc nL y.cls rm → E.l = l → E.X = X → E.meth.name = y.name → GX E.G0 E.ad0 G E.ad0 → RAq E cc nL mc ms post → wp post → WX E nL G M 0 0 (lv_args 0 as) [] 0) : MAq l X y (ws_ y cc nL (some rt)) rm mc ms as G M wp := by
  intro ad sz post
  refine Met.ofW (cc := cc) (maxL := nL) (ret := some rt) hy rfl ?_
  intro p e s m args below meth c s₁ B hml hv
  obtain ⟨rfl, hsz, hW, hB, hok, hw⟩ := hv
  subst hsz
  have hts0 := atoms_spec (ws := ws_ y cc nL (some rt)) B.pre
  have hts := hts0
  have key := body (p, l, e, _, s, m, _, below, meth, c, X, WA ad G.1 s.heap.size, ad, G, MQ below (QAq X ad s.heap.size G post) (as.map (cv ad)).toArray s mc ms (WA ad G.1 s.heap.size)) post ⟨B.exec, B.bytes, hml, findClass_of_methodNamed B.named, fun w h => hts w (List.mem_cons_of_mem _ h), rfl, hB, fun q h => Or.inr h, B.notSynchronized, hl⟩ rfl rfl ((name_of_methodNamed B.named B.method).1) ⟨Nat.le_refl _, fun k _ => ⟨rfl, rfl, rfl⟩⟩ ?_ hw
  · have hl2 := lv_entry (as.map (cv ad)) (n := nL) (by rw [lgl]; exact hn)
    rw [lg_entry_eq]
    rw [lva] at hl2
    exact key ad s.heap [] _ hW.self ⟨Nat.le_refl _, fun k _ => ⟨rfl, rfl, rfl⟩⟩ va_S.rf hl2
  · intro r G' M' pc lv kc ks hp hkc hks hrk hro d ad' H lo ls h1 h2 h3 h4
    refine (W.widen hkc hks ?_)
    exact W.aret (v := cv ad' r) B.exec B.bytes B.returns hrt (rfo_ref hrk) (fun t ht hW => ⟨⟨rfo ad' r, (r, ad', G', M'), by rw [cv_rfo hrk], ⟨rfl, hrk, hro, hp, h2⟩, by dsimp only; rw [ht]; exact h1⟩, h3.F ht⟩) h3.2.2 d B.notSynchronized
theorem mk_xq {l : Launch} {y : MethodName} {cc : ByteArray} {nL mc ms : Nat} {rm : Room} {as : List Value} {G : GG} {M : MM} {wp : (Value → GG → MM → Prop) → PX → Prop} {X : XE} {rt : FieldType} (hl : l.stackTraces = false) (hy : plainName y.cls = true) (hn : (lg_sl as).length ≤ nL) (hrt : (∃ n, rt = .object n) ∨ ∃ t, rt = .array t) 
    (body : ∀ (E : EN) (post : Value → GG → MM → Prop) (postX : PX), CX E cc nL y.cls rm → E.l = l → E.X = X → E.meth.name = y.name → GX E.G0 E.ad0 G E.ad0 → E.c.exceptionTable.toList = [] → RAq E cc nL mc ms post → RXX E nL mc ms postX → wp post postX → WX E nL G M 0 0 (lv_args 0 as) [] 0) : MXq l X y (ws_ y cc nL (some rt)) rm mc ms as G M wp := by
  intro ad sz post postX
  refine vx_ofW (cc := cc) (maxL := nL) (ret := some rt) hy rfl ?_
  intro p e s m args below meth c s₁ B hml hnt hv
  obtain ⟨rfl, hsz, hW, hB, hok, hw⟩ := hv
  subst hsz
  have hts0 := atoms_spec (ws := ws_ y cc nL (some rt)) B.pre
  have hts := hts0
  have key := body (p, l, e, _, s, m, _, below, meth, c, X, WA ad G.1 s.heap.size, ad, G, vx_MQ below (QAq X ad s.heap.size G post) (XCx X ad s.heap.size G postX) (as.map (cv ad)).toArray s mc ms (WA ad G.1 s.heap.size)) post postX ⟨B.exec, B.bytes, hml, findClass_of_methodNamed B.named, fun w h => hts w (List.mem_cons_of_mem _ h), rfl, hB, fun q h => Or.inr h, B.notSynchronized, hl⟩ rfl rfl ((name_of_methodNamed B.named B.method).1) ⟨Nat.le_refl _, fun k _ => ⟨rfl, rfl, rfl⟩⟩ (by cases hq : c.exceptionTable.toList with | nil => rfl | cons z zs => exact (hnt z (by rw [hq]; exact List.mem_cons_self)).elim) ?_ ?_ hw
  · have hl2 := lv_entry (as.map (cv ad)) (n := nL) (by rw [lgl]; exact hn)
    rw [lg_entry_eq]
    rw [lva] at hl2
    exact key ad s.heap [] _ hW.self ⟨Nat.le_refl _, fun k _ => ⟨rfl, rfl, rfl⟩⟩ va_S.rf hl2
  · intro r G' M' pc lv kc ks hp hkc hks hrk hro d ad' H lo ls h1 h2 h3 h4
    refine vx_ret (W.widen hkc hks ?_)
    exact W.aret (v := cv ad' r) B.exec B.bytes B.returns hrt (rfo_ref hrk) (fun t ht hW => ⟨⟨rfo ad' r, (r, ad', G', M'), by rw [cv_rfo hrk], ⟨rfl, hrk, hro, hp, h2⟩, by dsimp only; rw [ht]; exact h1⟩, h3.F ht⟩) h3.2.2 d B.notSynchronized
  · intro En v G' M' lv st pc kc ks hp hvo hvr hkc hks hout ad' H lo ls q ce h1 h2 h3 h4 hv hc hvm hcl
    exact vx_out hout B.notSynchronized hc hvm hcl (fun t ht hal => ⟨⟨v, (ad', G', M'), hp, hv, hvo, hvr, h2, by dsimp only; rw [ht]; exact h1⟩, h3.F ht⟩) h3.2.2 hkc hks
theorem mk_wq {l : Launch} {y : MethodName} {cc : ByteArray} {nL mc ms : Nat} {rm : Room} {as : List Value} {G : GG} {M : MM} {hh : List (Nat × Nat × Nat × Nat)} {wp : (Value → GG → MM → Prop) → PX → Prop} {X : XE} {rt : FieldType} (hl : l.stackTraces = false) (hy : plainName y.cls = true) (hn : (lg_sl as).length ≤ nL) (hrt : (∃ n, rt = .object n) ∨ ∃ t, rt = .array t) 
    (body : ∀ (E : EN) (post : Value → GG → MM → Prop) (postX : PX), CX E cc nL y.cls rm → E.l = l → E.X = X → E.meth.name = y.name → GX E.G0 E.ad0 G E.ad0 → E.c.exceptionTable.toList = tableOf hh → RAq E cc nL mc ms post → RXX E nL mc ms postX → wp post postX → WX E nL G M 0 0 (lv_args 0 as) [] 0) : MXq l X y (wsW_ y cc nL (some rt) hh) rm mc ms as G M wp := by
  intro ad sz post postX
  refine vx_ofWH (cc := cc) (maxL := nL) (ret := some rt) (hh := hh) hy rfl ?_
  intro p e s m args below meth c s₁ B hml hv
  obtain ⟨rfl, hsz, hW, hB, hok, hw⟩ := hv
  subst hsz
  have hts0 := atoms_spec (ws := wsW_ y cc nL (some rt) hh) B.pre
  have hts := hts0
  have key := body (p, l, e, _, s, m, _, below, meth, c, X, WA ad G.1 s.heap.size, ad, G, vx_MQ below (QAq X ad s.heap.size G post) (XCx X ad s.heap.size G postX) (as.map (cv ad)).toArray s mc ms (WA ad G.1 s.heap.size)) post postX ⟨B.exec, B.bytes, hml, findClass_of_methodNamed B.named, fun w h => hts w (List.mem_cons_of_mem _ h), rfl, hB, fun q h => Or.inr h, B.notSynchronized, hl⟩ rfl rfl ((name_of_methodNamed B.named B.method).1) ⟨Nat.le_refl _, fun k _ => ⟨rfl, rfl, rfl⟩⟩ (vx_table (x := y) B (hts0 _ List.mem_cons_self)) ?_ ?_ hw
  · have hl2 := lv_entry (as.map (cv ad)) (n := nL) (by rw [lgl]; exact hn)
    rw [lg_entry_eq]
    rw [lva] at hl2
    exact key ad s.heap [] _ hW.self ⟨Nat.le_refl _, fun k _ => ⟨rfl, rfl, rfl⟩⟩ va_S.rf hl2
  · intro r G' M' pc lv kc ks hp hkc hks hrk hro d ad' H lo ls h1 h2 h3 h4
    refine vx_ret (W.widen hkc hks ?_)
    exact W.aret (v := cv ad' r) B.exec B.bytes B.returns hrt (rfo_ref hrk) (fun t ht hW => ⟨⟨rfo ad' r, (r, ad', G', M'), by rw [cv_rfo hrk], ⟨rfl, hrk, hro, hp, h2⟩, by dsimp only; rw [ht]; exact h1⟩, h3.F ht⟩) h3.2.2 d B.notSynchronized
  · intro En v G' M' lv st pc kc ks hp hvo hvr hkc hks hout ad' H lo ls q ce h1 h2 h3 h4 hv hc hvm hcl
    exact vx_out hout B.notSynchronized hc hvm hcl (fun t ht hal => ⟨⟨v, (ad', G', M'), hp, hv, hvo, hvr, h2, by dsimp only; rw [ht]; exact h1⟩, h3.F ht⟩) h3.2.2 hkc hks
theorem x_aq {E : EN} {cc : ByteArray} {nL : Nat} {own : String} {rm : Room} {G : GG} {M : MM} {kc ks : Nat} {lv : List (Nat × Value)} {st : List Value} {pc : Nat} {mc ms : Nat} {stk : List Value} {post : Value → GG → MM → Prop} (h : CX E cc nL own rm) (hr : RunN E nL G M kc ks mc ms lv stk st pc (fun ad sz => QAq E.X ad sz G post)) (hst : okS G.1 st) (hlv : okL G.1 lv) (k : ∀ (r : Value) (G' : GG) (M' : MM), post r G' M' → GrG G G' → rfk r → okv G'.1 r → WX E nL G' M' (kc + mc) (ks + ms) lv (r :: st) (pc + 3)) : WX E nL G M kc ks lv stk pc := by
  intro ad H lo ls h1 h2 h3 h4
  have hFc := free_of h h1 h3
  obtain ⟨a, hrun⟩ := hr ad H lo ls h1 h2 h3 h4
  intro T hT X
  obtain ⟨v, st₀, t, T', L, e0, X', hL, e1, e2, ⟨⟨r, u, hv, ⟨rfl, hp1, hp2, hp, hg⟩, hb⟩, hF⟩, go⟩ := hrun T hT X
  · cases hv
    obtain ⟨k1, k2, k3⟩ := vx_keep e0 e1 h3 (fun q _ hh => hFc q hh) hFc hL hF
    have hB : World E.X E.A u.2.1 u.2.2.1 u.2.2.2 T'.heap := by rw [e1]; exact hb.weak hFc
    have he : ∀ k, k < G.1 → u.2.1 k = ad k := fun k hk => (hg.2 k hk).1
    have kk := k u.1 u.2.2.1 u.2.2.2 hp hg.gr hp1 hp2 u.2.1 T'.heap (lo ++ L) ls hB (h2.trans hg) k3 (by rw [hlv.map he]; exact h4)
    rw [List.map_cons, hst.map he] at kk
    rw [← cv_rfo hp1] at kk
    obtain ⟨t2, a1, b1⟩ := kk T' rfl X'
    exact ⟨t2, go t2 a1, b1⟩
theorem x_xq {E : EN} {cc : ByteArray} {nL : Nat} {own : String} {rm : Room} {G : GG} {M : MM} {kc ks : Nat} {lv : List (Nat × Value)} {st : List Value} {pc : Nat} {mc ms : Nat} {stk : List Value} {post : Value → GG → MM → Prop} {postX : PX} (h : CX E cc nL own rm) (hr : RunX E nL G M kc ks mc ms lv stk st pc (fun ad sz => QAq E.X ad sz G post) (fun ad sz => XCx E.X ad sz G postX)) (hst : okS G.1 st) (hlv : okL G.1 lv) (kx : ∀ (En : String) (v : Value) (G' : GG) (M' : MM), postX En v G' M' → GrG G G' → okv G'.1 v → rfk v → WXX E nL G' M' (kc + mc) (ks + ms) lv st pc En v) (k : ∀ (r : Value) (G' : GG) (M' : MM), post r G' M' → GrG G G' → rfk r → okv G'.1 r → WX E nL G' M' (kc + mc) (ks + ms) lv (r :: st) (pc + 3)) : WX E nL G M kc ks lv stk pc := by
  intro ad H lo ls h1 h2 h3 h4
  have hFc := free_of h h1 h3
  obtain ⟨a, hrun⟩ := hr ad H lo ls h1 h2 h3 h4
  intro T hT X
  rcases hrun T hT X with ⟨v, st₀, t, T', L, e0, X', hL, e1, e2, ⟨⟨r, u, hv, ⟨rfl, hp1, hp2, hp, hg⟩, hb⟩, hF⟩, go⟩ | ⟨q, st₀, t, T', L, En, ce, e0, X', hL, e1, e2, ⟨⟨v, u, hp, hcv, hvo, hvr, hg, hb⟩, hF⟩, hce, hcm, hcl, go⟩
  · cases hv
    obtain ⟨k1, k2, k3⟩ := vx_keep e0 e1 h3 (fun q _ hh => hFc q hh) hFc hL hF
    have hB : World E.X E.A u.2.1 u.2.2.1 u.2.2.2 T'.heap := by rw [e1]; exact hb.weak hFc
    have he : ∀ k, k < G.1 → u.2.1 k = ad k := fun k hk => (hg.2 k hk).1
    have kk := k u.1 u.2.2.1 u.2.2.2 hp hg.gr hp1 hp2 u.2.1 T'.heap (lo ++ L) ls hB (h2.trans hg) k3 (by rw [hlv.map he]; exact h4)
    rw [List.map_cons, hst.map he] at kk
    rw [← cv_rfo hp1] at kk
    obtain ⟨t2, a1, b1⟩ := kk T' rfl X'
    exact ⟨t2, go t2 a1, b1⟩
  · obtain ⟨k1, k2, k3⟩ := vx_keep e0 e1 h3 (fun q _ hh => hFc q hh) hFc hL hF
    have hB : World E.X E.A u.1 u.2.1 u.2.2 T'.heap := by rw [e1]; exact hb.weak hFc
    have he : ∀ k, k < G.1 → u.1 k = ad k := fun k hk => (hg.2 k hk).1
    have kk := kx En v u.2.1 u.2.2 hp hg.gr hvo hvr u.1 T'.heap (lo ++ L) ls q ce hB (h2.trans hg) k3 (by rw [hlv.map he]; exact h4) hcv (by rw [e1]; exact hce) hcm hcl
    rw [hst.map he] at kk
    obtain ⟨t2, a1, b1⟩ := kk T' rfl X'
    exact ⟨t2, go.trans a1, b1⟩
theorem runX_VW {E : EN} {cc : ByteArray} {nL : Nat} {own : String} {rm : Room} {G : GG} {M : MM} {kc ks : Nat} {lv : List (Nat × Value)} {st : List Value} {pc : Nat} {y : MethodName} {bytes : ByteArray} {maxL index mc ms n : Nat} {ret : Option FieldType} {hh : List (Nat × Nat × Nat × Nat)} {ws : List Cond} {rm' : Room} {as : List Value} {w : Prop} {q ci : Nat} {C : String} {T : u_T} {N : Nat} {Qc : (Nat → Nat) → Nat → Array Value → State → Outcome → State → Prop} {XC : (Nat → Nat) → Nat → Addr → String → State → State → Prop} (h : CX E cc nL own rm) (hM : ∀ (ad : Nat → Nat) (sz : Nat), vx_Met E.l y ws rm' (PCX E.X ad sz G M (.ref q :: as) w) (Qc ad sz) (XC ad sz) mc ms (WA ad G.1 sz)) (hw : w) (cw : (rm'.frames + 1 ≤ E.R.frames ∧ 8 + (maxL + 11) + rm'.locals ≤ E.R.locals) → vx_CVW E.R E.s E.args own C index y bytes maxL ret hh ws rm' mc ms n) (hR : rm'.frames + 1 ≤ rm.frames ∧ 8 + (maxL + 11) + rm'.locals ≤ rm.locals) (hz : kc + mc ≤ rm.cells ∧ ks + ms ≤ rm.slots) (hq : isK G q ci) (hci : ci < 100) (hcl : clT[ci]? = some (C, T, N)) (hok : ∀ v ∈ as, okv G.1 v) (hn : as.length = n) {stk : List Value} (hst : stk = as.reverse ++ .ref q :: st) (hcat : (st.map fun v => v.category).sum ≤ 8) (d : decode cc pc = .ok (.invokevirtual index, 3)) : RunX E nL G M kc ks mc ms lv stk st pc Qc XC := by
  subst hst
  intro ad H lo ls h1 h2 h3 h4
  have hRm := h.R
  rw [rcons]
  refine ⟨_, vx_runVX (As := as.map (cv ad)) (rest := st.map (cv ad)) ⟨h.x, h.b, h.ml, h.own, h.ts⟩ (hM ad H.size) (cw (by rw [hRm]; exact hR)) ⟨PCX_blind, rcv_of h h1 hq hci hcl, pre_of h h1 h3 (okc hq.1 hok) hw⟩ rfl (by rw [List.length_map]; exact hn) h4.1 rfl (lv_room (by rw [catmap]; exact hcat)) d ⟨by rw [hRm]; exact hz.1, by rw [hRm]; exact hz.2⟩⟩
