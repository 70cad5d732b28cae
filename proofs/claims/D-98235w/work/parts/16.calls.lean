/-! calls -/
theorem XPc.blind {G : GT} {As : List AV} {h : Hp} : FrameBlind (XPc G As h) := fun a U g mk q => ⟨q.1, q.2.1, q.2.2.1, GK.same (s := U) (U := U.calling g mk a) rfl q.2.2.2⟩
section ROWS
variable {G : GT} {X : ET} {cc : ByteArray} {nL fr lc : Nat} {own : String} {h0 h : Hp} {Q : Option AV → Hp → Prop} {pc : Nat} {lo : List (Option AV)} {st : List AV}
theorem x_callG {y : MethodName} {cc' : ByteArray} {nL' fr' lc' : Nat} {ret : Option FieldType} {As stk rest : List AV} {Qc : Option AV → Hp → Prop} (HE : XE G X cc nL own fr lc h0) (hlo : lo.length = nL) (hM : ∀ l, XM G l y cc' nL' ret fr' lc' As Qc h)
    (hrow : ∀ {p : Program} {l : Launch} {e : Env} {R : Room} {s : State} {m : MethodId} {args : Array Value} {below : List Frame} {meth : Method} {c : Code} {H : Heap} {locs : List Loc} {ls : Array Slot} {cells slots mc ms : Nat}, CallFix p m c cc nL s args lw_all own → GK G s → Rel G H h → R.frames = fr → R.locals = lc → ls.size = nL → (∀ v ∈ stk, okv v) → Met l y (ws_ y cc' nL' ret) ({ frames := fr', cells := mc, slots := ms, locals := lc' }) (XPc G As h) (XQc G h Qc) mc ms (fun q => G.1.size ≤ q) → (∀ U : State, U.heap = H → s.WarmedH U.vm → XPc G As h (As.map cv).toArray U) → cells + mc ≤ R.cells ∧ slots + ms ≤ R.slots → va_Run p l e R s m args below meth c H locs cells slots mc ms (F0 m pc ls (stk.map cv)) (rest.map cv) (XQc G h Qc (As.map cv).toArray) (fun q => G.1.size ≤ q))
    (okA : (∀ v ∈ stk, okv v) → (∀ v ∈ As, okl v) ∧ ∀ v ∈ rest, okv v)
    (kk : ∀ (r : Option AV) (h1 : Hp), Ext h h1 → Qc r h1 → Wx G X h0 Q h1 (pc + 3) lo (r.toList ++ rest)) : Wx G X h0 Q h pc lo stk := by
  obtain ⟨p, l, e, R, s, m, args, below, meth, c⟩ := X
  obtain ⟨hx, hb, hml, hown, hts, hlk, hK, hR0, hc1, hc2, hc3, hc4⟩ := HE
  intro H locs ls cells slots ho hst hE hR hL hl
  refine W.tight hR0 hR ?_
  obtain ⟨ok1, ok2⟩ := okA hst
  have b1 := hR.2.1
  have e1 := hE.1
  have e2 := hE.2.1
  have e3 := hE.con 0
  have b2 := hR.2.2.2.2.1
  have b3 := hR.2.2.2.2.2.1
  have b4 := hR.2.2.2.2.2.2.1
  have hrun := hrow (p := p) (l := l) (e := e) (R := R) (s := s) (m := m) (args := args) (below := below) (meth := meth) (c := c) (H := H) (locs := locs) (ls := ls) (cells := (hN h - hN h0).toNat) (slots := (hS h - hS h0).toNat) (mc := (hF h 0 0 + 1 + 1200128 - hN h).toNat) (ms := (5501098 - hS h).toNat) ⟨hx, hb, hml, hown, hts⟩ hK hR hc3 hc4 (hl.1.trans hlo) hst (hM l) (fun U hU hW => ⟨rfl, ok1, by rw [hU]; exact hR, hK.warm hW⟩) ⟨by rw [hc1]; omega, by rw [hc2]; omega⟩
  intro T hT XS
  obtain ⟨v, st₀, t, T', L, h00, X', hL', q1, q2, ⟨r, h1, hr, hokr, hE1, hR1, hq⟩, stp⟩ := hrun T hT XS
  have hv : v = r.map cv := by injection hr
  subst hv
  have k1 := kk r h1 hE1 hq T'.heap (locs ++ L) ls ((hN h - hN h0).toNat + (hF h 0 0 + 1 + 1200128 - hN h).toNat) ((hS h - hS h0).toNat + (5501098 - hS h).toNat) ho (fun w hw => by
      rcases List.mem_append.mp hw with z | z
      · cases r with
        | none => cases z
        | some r0 => simp at z; subst z; exact hokr _ rfl
      · exact ok2 w z) (hE.tr hE1) (by rw [q1]; exact hR1) (fun q hq2 => by
      rcases List.mem_append.mp hq2 with z | z
      · exact hL q z
      · exact hL' q z) hl
  have es : (r.toList ++ rest).map cv = (r.map cv).toList ++ rest.map cv := by cases r <;> rfl
  rw [es] at k1
  obtain ⟨t2, a1, b1⟩ := k1 T' rfl X'
  exact ⟨t2, stp t2 a1, b1⟩
/-- the rest of the stack at a call: at most eight words -/
def catS : List AV → Nat
  | [] => 0
  | .inl _ :: t => 1 + catS t
  | .inr (.inl _) :: t => 1 + catS t
  | .inr (.inr _) :: t => 2 + catS t
theorem catS_spec : ∀ st : List AV, ((st.map cv).map fun v => v.category).sum = catS st
  | [] => rfl
  | .inl _ :: t => by
    have := catS_spec t
    simp only [List.map_cons, List.sum_cons, catS, this, cv]; rfl
  | .inr (.inl a) :: t => by
    have := catS_spec t
    simp only [List.map_cons, List.sum_cons, catS, this, cv]
    have : (rv a).category = 1 := by unfold rv; split <;> rfl
    rw [this]
  | .inr (.inr _) :: t => by
    have := catS_spec t
    simp only [List.map_cons, List.sum_cons, catS, this, cv]; rfl
theorem catS_room {m : MethodId} {ls : Array Slot} {s2 : List Value} (h : catS st ≤ 8) : 2 * (F0 m pc ls s2).monitorRoom + ((st.map cv).map fun v => v.category).sum ≤ 8 := by
  rw [catS_spec]
  show 2 * 0 + _ ≤ 8
  omega
def noL : List AV → Bool
  | [] => true
  | .inl _ :: t => noL t
  | .inr (.inl _) :: t => noL t
  | .inr (.inr _) :: _ => false
theorem noL_ok : ∀ {As : List AV}, noL As = true → (∀ v ∈ As, okv v) → ∀ v ∈ As, okl v
  | [], _, _, _, h => by cases h
  | .inl x :: t, h, o, v, hv => by
    rcases List.mem_cons.mp hv with e | e
    · rw [e]; exact o _ List.mem_cons_self
    · exact noL_ok (As := t) h (fun w hw => o w (List.mem_cons_of_mem _ hw)) v e
  | .inr (.inl x) :: t, h, o, v, hv => by
    rcases List.mem_cons.mp hv with e | e
    · rw [e]; exact o _ List.mem_cons_self
    · exact noL_ok (As := t) h (fun w hw => o w (List.mem_cons_of_mem _ hw)) v e
  | .inr (.inr x) :: t, h, _, _, _ => by cases h
theorem okA_V {b : Int} {As rest : List AV} (hn : noL As = true) (o : ∀ v ∈ As.reverse ++ rV b :: rest, okv v) : (∀ v ∈ rV b :: As, okl v) ∧ ∀ v ∈ rest, okv v := by
  refine ⟨fun v hv => ?_, fun v hv => o v (List.mem_append_right _ (List.mem_cons_of_mem _ hv))⟩
  rcases List.mem_cons.mp hv with e | e
  · rw [e]; exact o (rV b) (List.mem_append_right _ List.mem_cons_self)
  · exact noL_ok hn (fun w hw => o w (List.mem_append_left _ (List.mem_reverse.mpr hw))) v e
theorem okA_S {As rest : List AV} (hn : noL As = true) (o : ∀ v ∈ As.reverse ++ rest, okv v) : (∀ v ∈ As, okl v) ∧ ∀ v ∈ rest, okv v :=
  ⟨noL_ok hn (fun w hw => o w (List.mem_append_left _ (List.mem_reverse.mpr hw))), fun v hv => o v (List.mem_append_right _ hv)⟩
theorem stk_V {b : Int} (hb : 1 ≤ b) (As rest : List AV) : (As.reverse ++ rV b :: rest).map cv = (As.map cv).reverse ++ .ref (b - 1).toNat :: rest.map cv := by
  rw [List.map_append, List.map_cons, List.map_reverse, show cv (rV b) = rv b from rfl, rv_pos hb]
theorem as_V {b : Int} (hb : 1 ≤ b) (As : List AV) : ((rV b :: As).map cv) = .ref (b - 1).toNat :: As.map cv := by
  rw [List.map_cons, show cv (rV b) = rv b from rfl, rv_pos hb]
def dscN (d : String) (n : Nat) : Prop := (parseMethodDescriptor d).map (fun d => d.parameters.length) = some n
/-- invokevirtual of a method of the receiver's own class -/
theorem x_callV {y : MethodName} {cc' : ByteArray} {nL' fr' lc' idx n : Nat} {ret : Option FieldType} {As stk rest : List AV} {b t : Int} {Qc : Option AV → Hp → Prop} {C : String} {T : u_T} {N : Nat} (HE : XE G X cc nL own fr lc h0) (hd : decode cc pc = .ok (.invokevirtual idx, 3)) (hlo : lo.length = nL)
    (hM : ∀ l, XM G l y cc' nL' ret fr' lc' (rV b :: As) Qc h) (hstk : stk = As.reverse ++ rV b :: rest) (hC : XC t C T N) (ht : hT h b = t)
    (hG : GoodIn lw_all (wsV own idx C y (ws_ y cc' nL' ret))) (hy : y.cls = C ∧ y.cls ≠ "java/lang/invoke/MethodHandle" ∧ y.cls ≠ "java/lang/invoke/VarHandle" ∧ dscN y.desc n) (hn : As.length = n) (hnl : noL As = true) (hcat : catS rest ≤ 8) (hfr : fr' + 1 ≤ fr) (hlc : 8 + (nL' + 11) + lc' ≤ lc)
    (kk : ∀ (r : Option AV) (h1 : Hp), Ext h h1 → Qc r h1 → Wx G X h0 Q h1 (pc + 3) lo (r.toList ++ rest)) : Wx G X h0 Q h pc lo stk := by
  subst hstk
  refine x_callG HE hlo hM (fun S hK hR f1 f2 hls ho hMet hPc hf => ?_) (okA_V hnl) kk
  obtain ⟨hb1, hrecv⟩ := hR.recv hK ht hC.1 hC.2.1
  rw [stk_V hb1, as_V hb1]
  rw [as_V hb1] at hPc
  exact va_runV (As := As.map cv) S hMet (cwV n S.2.2.2.2 hG rfl rfl rfl hy ⟨by rw [f1]; exact hfr, by rw [f2]; exact hlc⟩) ⟨XPc.blind, hrecv, hPc⟩ rfl (by rw [List.length_map]; exact hn) hls rfl (catS_room hcat) hd hf
/-- a static method -/
theorem x_callS {y : MethodName} {cc' : ByteArray} {nL' fr' lc' idx n : Nat} {ret : Option FieldType} {As stk rest : List AV} {Qc : Option AV → Hp → Prop} (HE : XE G X cc nL own fr lc h0) (hd : decode cc pc = .ok (.invokestatic idx, 3)) (hlo : lo.length = nL)
    (hM : ∀ l, XM G l y cc' nL' ret fr' lc' As Qc h) (hstk : stk = As.reverse ++ rest)
    (hG : GoodIn lw_all (va_wsS own idx y (ws_ y cc' nL' ret))) (hy : y.cls ≠ "java/lang/invoke/MethodHandle" ∧ y.cls ≠ "java/lang/invoke/VarHandle" ∧ dscN y.desc n) (hn : As.length = n) (hnl : noL As = true) (hcat : catS rest ≤ 8) (hfr : fr' + 1 ≤ fr) (hlc : 8 + (nL' + 11) + lc' ≤ lc)
    (kk : ∀ (r : Option AV) (h1 : Hp), Ext h h1 → Qc r h1 → Wx G X h0 Q h1 (pc + 3) lo (r.toList ++ rest)) : Wx G X h0 Q h pc lo stk := by
  subst hstk
  refine x_callG HE hlo hM (fun S hK hR f1 f2 hls ho hMet hPc hf => ?_) (okA_S hnl) kk
  rw [List.map_append, List.map_reverse]
  exact va_runS (As := As.map cv) S hMet (va_cwS n S.2.2.2.2 hG rfl rfl rfl hy ⟨by rw [f1]; exact hfr, by rw [f2]; exact hlc⟩) ⟨XPc.blind, hPc⟩ rfl (by rw [List.length_map]; exact hn) hls rfl (catS_room hcat) hd hf
/-- a nest mate's static method -/
theorem x_callSN {y : MethodName} {cc' : ByteArray} {nL' fr' lc' idx n : Nat} {ret : Option FieldType} {As stk rest : List AV} {Qc : Option AV → Hp → Prop} {host : String} (HE : XE G X cc nL own fr lc h0) (hd : decode cc pc = .ok (.invokestatic idx, 3)) (hlo : lo.length = nL)
    (hM : ∀ l, XM G l y cc' nL' ret fr' lc' As Qc h) (hstk : stk = As.reverse ++ rest)
    (hw : Cond.methodLinkNest own idx y host ∈ xNest) (hini : Cond.initialized y.cls ∈ lw_all) (hsta : Cond.static y ∈ lw_all) (hcode : Cond.code y cc' nL' ret ∈ lw_all) (hy : y.cls ≠ "java/lang/invoke/MethodHandle" ∧ y.cls ≠ "java/lang/invoke/VarHandle" ∧ dscN y.desc n) (hn : As.length = n) (hnl : noL As = true) (hcat : catS rest ≤ 8) (hfr : fr' + 1 ≤ fr) (hlc : 8 + (nL' + 11) + lc' ≤ lc)
    (kk : ∀ (r : Option AV) (h1 : Hp), Ext h h1 → Qc r h1 → Wx G X h0 Q h1 (pc + 3) lo (r.toList ++ rest)) : Wx G X h0 Q h pc lo stk := by
  subst hstk
  refine x_callG HE hlo hM (fun S hK hR f1 f2 hls ho hMet hPc hf => ?_) (okA_S hnl) kk
  rw [List.map_append, List.map_reverse]
  exact va_runSN (As := As.map cv) S hMet ⟨va_cnB n S.2.2.2.2 (lw_meth hcode) rfl rfl rfl (hK.2.2.1 _ hw) (S.2.2.2.2 _ hini) hy ⟨by rw [f1]; exact hfr, by rw [f2]; exact hlc⟩, S.2.2.2.2 _ hsta, trivial⟩ ⟨XPc.blind, hPc⟩ rfl (by rw [List.length_map]; exact hn) hls rfl (catS_room hcat) hd hf
/-- a constructor -/
theorem x_callI {y : MethodName} {cc' : ByteArray} {nL' fr' lc' idx n : Nat} {As stk rest : List AV} {b : Int} {Qc : Option AV → Hp → Prop} (HE : XE G X cc nL own fr lc h0) (hd : decode cc pc = .ok (.invokespecial idx, 3)) (hlo : lo.length = nL)
    (hM : ∀ l, XM G l y cc' nL' none fr' lc' (rV b :: As) Qc h) (hstk : stk = As.reverse ++ rV b :: rest) (hb1 : 1 ≤ b)
    (hlink : Cond.methodLink own idx y ∈ lw_all) (hini : Cond.initialized y.cls ∈ lw_all) (hins : Cond.instanceMethod y ∈ lw_all) (hcode : Cond.code y cc' nL' none ∈ lw_all) (hyn : y.name = "<init>") (hy : y.cls ≠ "java/lang/invoke/MethodHandle" ∧ y.cls ≠ "java/lang/invoke/VarHandle" ∧ dscN y.desc n) (hn : As.length = n) (hnl : noL As = true) (hcat : catS rest ≤ 8) (hfr : fr' + 1 ≤ fr) (hlc : 8 + (nL' + 11) + lc' ≤ lc)
    (kk : ∀ (r : Option AV) (h1 : Hp), Ext h h1 → Qc r h1 → Wx G X h0 Q h1 (pc + 3) lo (r.toList ++ rest)) : Wx G X h0 Q h pc lo stk := by
  subst hstk
  refine x_callG HE hlo hM (fun S hK hR f1 f2 hls ho hMet hPc hf => ?_) (okA_V hnl) kk
  rw [stk_V hb1, as_V hb1]
  rw [as_V hb1] at hPc
  exact va_runI (As := As.map cv) S hMet (cwI n S.2.2.2.2 (lw_meth hcode) rfl rfl rfl (S.2.2.2.2 _ hini) (S.2.2.2.2 _ hlink) (S.2.2.2.2 _ hins) hyn hy ⟨by rw [f1]; exact hfr, by rw [f2]; exact hlc⟩) ⟨XPc.blind, hPc⟩ rfl (by rw [List.length_map]; exact hn) hls rfl (catS_room hcat) hd hf
/-- a nest mate's private constructor -/
theorem x_callIN {y : MethodName} {cc' : ByteArray} {nL' fr' lc' idx n : Nat} {As stk rest : List AV} {b : Int} {Qc : Option AV → Hp → Prop} {host : String} (HE : XE G X cc nL own fr lc h0) (hd : decode cc pc = .ok (.invokespecial idx, 3)) (hlo : lo.length = nL)
    (hM : ∀ l, XM G l y cc' nL' none fr' lc' (rV b :: As) Qc h) (hstk : stk = As.reverse ++ rV b :: rest) (hb1 : 1 ≤ b)
    (hw : Cond.methodLinkNest own idx y host ∈ xNest) (hini : Cond.initialized y.cls ∈ lw_all) (hins : Cond.instanceMethod y ∈ lw_all) (hcode : Cond.code y cc' nL' none ∈ lw_all) (hyn : y.name = "<init>") (hy : y.cls ≠ "java/lang/invoke/MethodHandle" ∧ y.cls ≠ "java/lang/invoke/VarHandle" ∧ dscN y.desc n) (hn : As.length = n) (hnl : noL As = true) (hcat : catS rest ≤ 8) (hfr : fr' + 1 ≤ fr) (hlc : 8 + (nL' + 11) + lc' ≤ lc)
    (kk : ∀ (r : Option AV) (h1 : Hp), Ext h h1 → Qc r h1 → Wx G X h0 Q h1 (pc + 3) lo (r.toList ++ rest)) : Wx G X h0 Q h pc lo stk := by
  subst hstk
  refine x_callG HE hlo hM (fun S hK hR f1 f2 hls ho hMet hPc hf => ?_) (okA_V hnl) kk
  rw [stk_V hb1, as_V hb1]
  rw [as_V hb1] at hPc
  exact va_runIN (As := As.map cv) S hMet ⟨va_cnB n S.2.2.2.2 (lw_meth hcode) rfl rfl rfl (hK.2.2.1 _ hw) (S.2.2.2.2 _ hini) hy ⟨by rw [f1]; exact hfr, by rw [f2]; exact hlc⟩, hyn, S.2.2.2.2 _ hins⟩ ⟨XPc.blind, hPc⟩ rfl (by rw [List.length_map]; exact hn) hls rfl (catS_room hcat) hd hf
/-- invokevirtual where the named method isn't the one that runs, or is a superclass's: inherited (cwU), overriding (cwO), abstract (cwA) -/
theorem x_callU {x y : MethodName} {cc' : ByteArray} {nL' fr' lc' idx n : Nat} {ret : Option FieldType} {As stk rest : List AV} {b t : Int} {Qc : Option AV → Hp → Prop} {C owner : String} {T : u_T} {N : Nat} (HE : XE G X cc nL own fr lc h0) (hd : decode cc pc = .ok (.invokevirtual idx, 3)) (hlo : lo.length = nL)
    (hM : ∀ l, XM G l y cc' nL' ret fr' lc' (rV b :: As) Qc h) (hstk : stk = As.reverse ++ rV b :: rest) (hC : XC t C T N) (ht : hT h b = t)
    (hcw : ∀ {R : Room} {s : State} {args : Array Value} {mc ms : Nat}, (∀ w ∈ lw_all, w.before args s = true) → GK G s → fr' + 1 ≤ R.frames ∧ 8 + (nL' + 11) + lc' ≤ R.locals → va_CU R s args own C owner idx x y cc' nL' ret (ws_ y cc' nL' ret) ({ frames := fr', cells := mc, slots := ms, locals := lc' }) mc ms n) (hn : As.length = n) (hnl : noL As = true) (hcat : catS rest ≤ 8) (hfr : fr' + 1 ≤ fr) (hlc : 8 + (nL' + 11) + lc' ≤ lc)
    (kk : ∀ (r : Option AV) (h1 : Hp), Ext h h1 → Qc r h1 → Wx G X h0 Q h1 (pc + 3) lo (r.toList ++ rest)) : Wx G X h0 Q h pc lo stk := by
  subst hstk
  refine x_callG HE hlo hM (fun S hK hR f1 f2 hls ho hMet hPc hf => ?_) (okA_V hnl) kk
  obtain ⟨hb1, hrecv⟩ := hR.recv hK ht hC.1 hC.2.1
  rw [stk_V hb1, as_V hb1]
  rw [as_V hb1] at hPc
  exact va_runU (As := As.map cv) S hMet (hcw S.2.2.2.2 hK ⟨by rw [f1]; exact hfr, by rw [f2]; exact hlc⟩) ⟨XPc.blind, hrecv, hPc⟩ rfl (by rw [List.length_map]; exact hn) hls rfl (catS_room hcat) hd hf
/-- super.m(..) -/
theorem x_callSU {y : MethodName} {cc' : ByteArray} {nL' fr' lc' idx n : Nat} {ret : Option FieldType} {As stk rest : List AV} {b t : Int} {Qc : Option AV → Hp → Prop} {C : String} {T : u_T} {N : Nat} (HE : XE G X cc nL own fr lc h0) (hd : decode cc pc = .ok (.invokespecial idx, 3)) (hlo : lo.length = nL)
    (hM : ∀ l, XM G l y cc' nL' ret fr' lc' (rV b :: As) Qc h) (hstk : stk = As.reverse ++ rV b :: rest) (hC : XC t C T N) (ht : hT h b = t)
    (hG : GoodIn lw_all (va_wsSU own idx y (ws_ y cc' nL' ret))) (hy : y.name ≠ "<init>" ∧ dscN y.desc n) (hn : As.length = n) (hnl : noL As = true) (hcat : catS rest ≤ 8) (hfr : fr' + 1 ≤ fr) (hlc : 8 + (nL' + 11) + lc' ≤ lc)
    (kk : ∀ (r : Option AV) (h1 : Hp), Ext h h1 → Qc r h1 → Wx G X h0 Q h1 (pc + 3) lo (r.toList ++ rest)) : Wx G X h0 Q h pc lo stk := by
  subst hstk
  refine x_callG HE hlo hM (fun S hK hR f1 f2 hls ho hMet hPc hf => ?_) (okA_V hnl) kk
  obtain ⟨hb1, hrecv⟩ := hR.recv hK ht hC.1 hC.2.1
  rw [stk_V hb1, as_V hb1]
  rw [as_V hb1] at hPc
  exact va_runSU (As := As.map cv) (hK.1 _ _ hC.2.1).2 S hMet (va_cwSU n S.2.2.2.2 hG rfl rfl rfl hy ⟨by rw [f1]; exact hfr, by rw [f2]; exact hlc⟩) ⟨XPc.blind, hrecv, hPc⟩ rfl (by rw [List.length_map]; exact hn) hls rfl (catS_room hcat) hd hf
/-- Object's constructor -/
theorem x_objInit (HE : XE G X cc nL own fr lc h0) {idx : Nat} {a : Int} (hd : decode cc pc = .ok (.invokespecial idx, 3)) (hlo : lo.length = nL) (hlink : Cond.methodLink own idx Lib.objectInit ∈ lw_all) (hins : Cond.instanceMethod Lib.objectInit ∈ lw_all) (hcode : Cond.code Lib.objectInit ⟨#[0xb1]⟩ 1 none ∈ lw_all) (ha : 1 ≤ a) (hcat : catS st ≤ 8) (hfr : 1 ≤ fr) (hlc : 20 ≤ lc)
    (kk : Wx G X h0 Q h (pc + 3) lo st) : Wx G X h0 Q h pc lo (rV a :: st) := by
  obtain ⟨p, l, e, R, s, m, args, below, meth, c⟩ := X
  obtain ⟨hx, hb, hml, hown, hts, hlk, hK, hR0, hc1, hc2, hc3, hc4⟩ := HE
  intro H locs ls cells slots ho hst hE hR hL hl
  show W p l e R s m args below meth c H locs cells slots _ (F0 m pc ls (rv a :: st.map cv))
  rw [rv_pos ha]
  exact W.objInit hx hb hown (hts _ hlink) (hts _ hins) (hts _ hcode) rfl (by rw [hml]; exact hl.1.trans hlo) rfl hd (by omega) (by
    have := catS_room (m := m) (pc := pc) (ls := ls) (s2 := .ref (a - 1).toNat :: st.map cv) hcat
    omega) (kk H locs ls cells slots ho (okd hst) hE hR hL hl)
end ROWS
