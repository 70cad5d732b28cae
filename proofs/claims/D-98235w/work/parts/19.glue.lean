/-! what the generated walks stand on -/
def FDx (t : Int) (k : Nat) (C : String) (T : u_T) (N kd : Nat) : Prop := XC t C T N ∧ k < N ∧ kt (vwTy (tcls t) k) = kd
theorem nro {t : Int} (h : 10 ≤ t) : ¬ roT t := by unfold roT; omega
theorem ey_sub {P : Int → Prop} {x y : Int} (e : y = x) (h : P x) : P y := by rw [e]; exact h
theorem xw5 {a b c d e : Cond} (h1 : a ∈ lw_all) (h2 : b ∈ lw_all) (h3 : c ∈ lw_all) (h4 : d ∈ lw_all) (h5 : e ∈ lw_all) : ∀ w ∈ ([a, b, c, d, e] : List Cond), w ∈ lw_all := by
  intro w hw
  simp only [List.mem_cons, List.not_mem_nil, or_false] at hw
  rcases hw with q | q | q | q | q <;> rw [q] <;> assumption
theorem xw6 {a b c d e f : Cond} (h1 : a ∈ lw_all) (h2 : b ∈ lw_all) (h3 : c ∈ lw_all) (h4 : d ∈ lw_all) (h5 : e ∈ lw_all) (h6 : f ∈ lw_all) : ∀ w ∈ ([a, b, c, d, e, f] : List Cond), w ∈ lw_all := by
  intro w hw
  simp only [List.mem_cons, List.not_mem_nil, or_false] at hw
  rcases hw with q | q | q | q | q | q <;> rw [q] <;> assumption
theorem tabS {x L a b : Int} (h : x < L ∨ a ≤ x) (hb : a + 1 = b) (n : x ≠ a) : x < L ∨ b ≤ x := by omega
theorem tabE {x L b hi : Int} (h : x < L ∨ b ≤ x) (hb : hi + 1 = b) : x < L ∨ hi < x := by omega
def Strg (h : Hp) (a : Int) : Prop := hT h a = 33 ∨ hT h a = 9
theorem Strg.ext {h h' : Hp} {a : Int} (hs : Strg h a) (E : Ext h h') : Strg h' a := by
  rcases hs with q | q
  · exact Or.inl (E.tag q (by decide))
  · exact Or.inr (E.tag q (by decide))
theorem Strg.xc {h : Hp} {a : Int} (hs : Strg h a) : XC (hT h a) RJ5 TJ5 4 := by
  rcases hs with q | q
  · rw [q]; exact ⟨by decide, rfl, in_J5, tyJ5_ok, nmJ5⟩
  · rw [q]; exact ⟨by decide, rfl, in_J5, tyJ5_ok, nmJ5⟩
def cmpI (x y : Int) : Int := if y < x then 1 else if x = y then 0 else -1
theorem cmpI_lg {x y : Int} (hx : i64 x) (hy : i64 y) : lg_cmp (Int64.ofInt x) (Int64.ofInt y) = Int32.ofInt (cmpI x y) := by
  have e1 : (Int64.ofInt x).toInt = x := Int64.toInt_ofInt_of_le (by unfold i64 at hx; omega) (by unfold i64 at hx; omega)
  have e2 : (Int64.ofInt y).toInt = y := Int64.toInt_ofInt_of_le (by unfold i64 at hy; omega) (by unfold i64 at hy; omega)
  unfold lg_cmp cmpI
  by_cases h1 : y < x
  · rw [if_pos (show Int64.ofInt x > Int64.ofInt y from Int64.lt_iff_toInt_lt.mpr (by rw [e1, e2]; exact h1)), if_pos h1]; rfl
  · rw [if_neg (show ¬ (Int64.ofInt x > Int64.ofInt y) from fun h => h1 (by have := Int64.lt_iff_toInt_lt.mp h; rw [e1, e2] at this; exact this)), if_neg h1]
    by_cases h2 : x = y
    · rw [if_pos (by rw [h2]), if_pos h2]; rfl
    · rw [if_neg (fun h => h2 (by rw [← e1, ← e2, h])), if_neg h2]; rfl
section ROWS
variable {G : GT} {X : ET} {cc : ByteArray} {nL fr lc : Nat} {own : String} {h0 h : Hp} {Q : Option AV → Hp → Prop} {pc : Nat} {lo : List (Option AV)} {st rest : List AV}
theorem Wx.wf (kk : WFa h → Wx G X h0 Q h pc lo st) : Wx G X h0 Q h pc lo st := by
  obtain ⟨p, l, e, R, s, m, args, below, meth, c⟩ := X
  intro H locs ls cells slots ho hst hE hR hL hl
  exact kk hR.wfa H locs ls cells slots ho hst hE hR hL hl
theorem x_lcmp (HE : XE G X cc nL own fr lc h0) {x y : Int} (hd : decode cc pc = .ok (.lcmp, 1)) (kk : Wx G X h0 Q h (pc + 1) lo (iV (cmpI x y) :: st)) : Wx G X h0 Q h pc lo (lV y :: lV x :: st) :=
  Wx.step HE (ok2 (v := iV _) (by
    show i32 (cmpI x y)
    unfold cmpI i32
    split <;> try split
    all_goals omega)) (fun hx hb _ _ _ _ o _ k => W.lcmp hx hb hd (by
    rw [cmpI_lg (okt (okd o)) (okt o)]; exact k)) kk
theorem x_gI (HE : XE G X cc nL own fr lc h0) {idx : Nat} {t a v : Int} {C ref : String} {T : u_T} {N k : Nat} (hd : decode cc pc = .ok (.getfield idx, 3)) (F : FDx t k C T N 0)
    (hlink : Cond.fieldLink own idx ref (T k).2.1 (T k).2.2.1 ∈ lw_all) (hsame : ref = (T k).1 ∨ Cond.sameField ref (T k).1 (T k).2.1 (T k).2.2.1 ∈ lw_all) (ht : hT h a = t) (hv : hF h a k = v)
    (kk : Wx G X h0 Q h (pc + 3) lo (iV v :: st)) : Wx G X h0 Q h pc lo (rV a :: st) :=
  x_getfK HE hd F.1 k F.2.1 hlink hsame ht hv (by rw [F.2.2]; exact kk)
theorem x_gR (HE : XE G X cc nL own fr lc h0) {idx : Nat} {t a v : Int} {C ref : String} {T : u_T} {N k : Nat} (hd : decode cc pc = .ok (.getfield idx, 3)) (F : FDx t k C T N 1)
    (hlink : Cond.fieldLink own idx ref (T k).2.1 (T k).2.2.1 ∈ lw_all) (hsame : ref = (T k).1 ∨ Cond.sameField ref (T k).1 (T k).2.1 (T k).2.2.1 ∈ lw_all) (ht : hT h a = t) (hv : hF h a k = v)
    (kk : Wx G X h0 Q h (pc + 3) lo (rV v :: st)) : Wx G X h0 Q h pc lo (rV a :: st) :=
  x_getfK HE hd F.1 k F.2.1 hlink hsame ht hv (by rw [F.2.2]; exact kk)
theorem x_pI (HE : XE G X cc nL own fr lc h0) {idx : Nat} {t a v : Int} {C ref : String} {T : u_T} {N k : Nat} (hd : decode cc pc = .ok (.putfield idx, 3)) (F : FDx t k C T N 0)
    (hlink : Cond.fieldLink own idx ref (T k).2.1 (T k).2.2.1 ∈ lw_all) (hsame : ref = (T k).1 ∨ Cond.sameField ref (T k).1 (T k).2.1 (T k).2.2.1 ∈ lw_all)
    (hfin : (T k).2.2.2 = false ∨ ((T k).2.2.2 = true ∧ XN X "<init>" ∧ (T k).1 = own)) (hnf : narrow (vwTy (tcls t) k) (cv (iV v)) = cv (iV v) ∧ fits (vwTy (tcls t) k) (cv (iV v)) = true)
    (ht : hT h a = t) (hro : ¬ roT t) (hz : finF t k = false ∨ hF h a k = 0)
    (kk : ∀ h1 : Hp, h1 = setF h a k v → Ext h h1 → Wx G X h0 Q h1 (pc + 3) lo st) : Wx G X h0 Q h pc lo (iV v :: rV a :: st) := by
  have := x_putfK (v := v) HE hd F.1 k F.2.1 hlink hsame hfin (by rw [F.2.2]; exact hnf) hro ht hz kk
  rw [F.2.2] at this
  exact this
theorem x_pR (HE : XE G X cc nL own fr lc h0) {idx : Nat} {t a v : Int} {C ref : String} {T : u_T} {N k : Nat} (hd : decode cc pc = .ok (.putfield idx, 3)) (F : FDx t k C T N 1)
    (hlink : Cond.fieldLink own idx ref (T k).2.1 (T k).2.2.1 ∈ lw_all) (hsame : ref = (T k).1 ∨ Cond.sameField ref (T k).1 (T k).2.1 (T k).2.2.1 ∈ lw_all)
    (hfin : (T k).2.2.2 = false ∨ ((T k).2.2.2 = true ∧ XN X "<init>" ∧ (T k).1 = own)) (hnf : narrow (vwTy (tcls t) k) (cv (rV v)) = cv (rV v) ∧ fits (vwTy (tcls t) k) (cv (rV v)) = true)
    (ht : hT h a = t) (hro : ¬ roT t) (hz : finF t k = false ∨ hF h a k = 0)
    (kk : ∀ h1 : Hp, h1 = setF h a k v → Ext h h1 → Wx G X h0 Q h1 (pc + 3) lo st) : Wx G X h0 Q h pc lo (rV v :: rV a :: st) := by
  have := x_putfK (v := v) HE hd F.1 k F.2.1 hlink hsame hfin (by rw [F.2.2]; exact hnf) hro ht hz kk
  rw [F.2.2] at this
  exact this
theorem kkI {K : Int → Hp → Prop} (kk : ∀ (x : Int) (h1 : Hp), Ext h h1 → K x h1 → Wx G X h0 Q h1 pc lo (iV x :: rest)) : ∀ (r : Option AV) (h1 : Hp), Ext h h1 → QI K r h1 → Wx G X h0 Q h1 pc lo (r.toList ++ rest) := by
  rintro r h1 E ⟨x, rfl, hq⟩
  exact kk x h1 E hq
theorem kkR {K : Int → Hp → Prop} (kk : ∀ (x : Int) (h1 : Hp), Ext h h1 → K x h1 → Wx G X h0 Q h1 pc lo (rV x :: rest)) : ∀ (r : Option AV) (h1 : Hp), Ext h h1 → QR K r h1 → Wx G X h0 Q h1 pc lo (r.toList ++ rest) := by
  rintro r h1 E ⟨x, rfl, hq⟩
  exact kk x h1 E hq
theorem kkV {K : Hp → Prop} (kk : ∀ (h1 : Hp), Ext h h1 → K h1 → Wx G X h0 Q h1 pc lo rest) : ∀ (r : Option AV) (h1 : Hp), Ext h h1 → QV K r h1 → Wx G X h0 Q h1 pc lo (r.toList ++ rest) := by
  rintro r h1 E ⟨rfl, hq⟩
  exact kk h1 E hq
theorem kt_str {h : Hp} {a : Int} (hs : Strg h a) (k : Nat) : kt (vwTy (tcls (hT h a)) k) = kt (tyJ5 k) := by
  rcases hs with q | q <;> rw [q] <;> rfl
theorem x_gStrI (HE : XE G X cc nL own fr lc h0) {idx : Nat} {a v : Int} {ref : String} (k : Nat) (hk : k < 4) (hkd : kt (tyJ5 k) = 0) (hd : decode cc pc = .ok (.getfield idx, 3))
    (hlink : Cond.fieldLink own idx ref (TJ5 k).2.1 (TJ5 k).2.2.1 ∈ lw_all) (hsame : ref = (TJ5 k).1 ∨ Cond.sameField ref (TJ5 k).1 (TJ5 k).2.1 (TJ5 k).2.2.1 ∈ lw_all) (hs : Strg h a) (hv : hF h a k = v)
    (kk : Wx G X h0 Q h (pc + 3) lo (iV v :: st)) : Wx G X h0 Q h pc lo (rV a :: st) :=
  x_getfK HE hd hs.xc k hk hlink hsame rfl hv (by rw [kt_str hs, hkd]; exact kk)
theorem x_gStr0 (HE : XE G X cc nL own fr lc h0) {idx : Nat} {a v : Int} {ref : String} (hd : decode cc pc = .ok (.getfield idx, 3))
    (hlink : Cond.fieldLink own idx ref (TJ5 0).2.1 (TJ5 0).2.2.1 ∈ lw_all) (hsame : ref = (TJ5 0).1 ∨ Cond.sameField ref (TJ5 0).1 (TJ5 0).2.1 (TJ5 0).2.2.1 ∈ lw_all) (hs : Strg h a) (hv : hF h a 0 = v)
    (kk : Wx G X h0 Q h (pc + 3) lo (rV v :: st)) : Wx G X h0 Q h pc lo (rV a :: st) :=
  x_getfK HE hd hs.xc 0 (by decide) hlink hsame rfl hv (by rw [kt_str hs]; exact kk)
theorem x_gStr1 (HE : XE G X cc nL own fr lc h0) {idx : Nat} {a v : Int} {ref : String} (hd : decode cc pc = .ok (.getfield idx, 3))
    (hlink : Cond.fieldLink own idx ref (TJ5 1).2.1 (TJ5 1).2.2.1 ∈ lw_all) (hsame : ref = (TJ5 1).1 ∨ Cond.sameField ref (TJ5 1).1 (TJ5 1).2.1 (TJ5 1).2.2.1 ∈ lw_all) (hs : Strg h a) (hv : hF h a 1 = v)
    (kk : Wx G X h0 Q h (pc + 3) lo (iV v :: st)) : Wx G X h0 Q h pc lo (rV a :: st) := x_gStrI HE 1 (by decide) rfl hd hlink hsame hs hv kk
theorem x_gStr2 (HE : XE G X cc nL own fr lc h0) {idx : Nat} {a v : Int} {ref : String} (hd : decode cc pc = .ok (.getfield idx, 3))
    (hlink : Cond.fieldLink own idx ref (TJ5 2).2.1 (TJ5 2).2.2.1 ∈ lw_all) (hsame : ref = (TJ5 2).1 ∨ Cond.sameField ref (TJ5 2).1 (TJ5 2).2.1 (TJ5 2).2.2.1 ∈ lw_all) (hs : Strg h a) (hv : hF h a 2 = v)
    (kk : Wx G X h0 Q h (pc + 3) lo (iV v :: st)) : Wx G X h0 Q h pc lo (rV a :: st) := x_gStrI HE 2 (by decide) rfl hd hlink hsame hs hv kk
theorem x_gStr3 (HE : XE G X cc nL own fr lc h0) {idx : Nat} {a v : Int} {ref : String} (hd : decode cc pc = .ok (.getfield idx, 3))
    (hlink : Cond.fieldLink own idx ref (TJ5 3).2.1 (TJ5 3).2.2.1 ∈ lw_all) (hsame : ref = (TJ5 3).1 ∨ Cond.sameField ref (TJ5 3).1 (TJ5 3).2.1 (TJ5 3).2.2.1 ∈ lw_all) (hs : Strg h a) (hv : hF h a 3 = v)
    (kk : Wx G X h0 Q h (pc + 3) lo (iV v :: st)) : Wx G X h0 Q h pc lo (rV a :: st) := x_gStrI HE 3 (by decide) rfl hd hlink hsame hs hv kk
theorem va_cwUP {R : Room} {s : State} {args : Array Value} {own C owner : String} {index maxL mc ms fr lc : Nat} {x y : MethodName} {bytes : ByteArray} {ret : Option FieldType} (n : Nat) (ht : ∀ w ∈ lw_all, w.before args s = true) (h1 : Cond.methodLink own index x ∈ lw_all) (h2 : Cond.sameMethod x.cls owner x.name x.desc ∈ lw_all) (h3 : (Cond.selects C x y).before args s = true) (h4 : Cond.instanceMethod y ∈ lw_all) (h5 : Cond.initialized y.cls ∈ lw_all) (h6 : Cond.code y bytes maxL ret ∈ lw_all)
    (hyx : y = ⟨owner, x.name, x.desc⟩) (hd : owner ≠ "java/lang/invoke/MethodHandle" ∧ owner ≠ "java/lang/invoke/VarHandle" ∧ dscN x.desc n) (hR : fr + 1 ≤ R.frames ∧ 8 + (maxL + 11) + lc ≤ R.locals) : va_CU R s args own C owner index x y bytes maxL ret (ws_ y bytes maxL ret) ({ frames := fr, cells := mc, slots := ms, locals := lc }) mc ms n := by
  refine ⟨⟨rfl, rfl, hR.1, hR.2, pay_in ht (lw_meth h6), List.mem_cons_self⟩, ht _ h6, ht _ h5, ⟨hd.1, hd.2.1⟩, fun sig h => ?_, ht _ h1, ht _ h2, by rw [← hyx]; exact va_Decl.of (ht _ h4) (ht _ h6), h3, ht _ h4⟩
  have h7 := hd.2.2
  unfold dscN at h7
  rw [h] at h7
  exact (Option.some.inj h7).symm
/-- bytes: an array of ours, or a constant's -/
def Byts (h : Hp) (a : Int) : Prop := hT h a = 2 ∨ hT h a = 7
theorem Byts.ext {h h' : Hp} {a : Int} (hs : Byts h a) (E : Ext h h') : Byts h' a := by
  rcases hs with q | q
  · exact Or.inl (E.tag q (by decide))
  · exact Or.inr (E.tag q (by decide))
/-- an array of references: one of ours, or the list's empty one -/
def Objs (h : Hp) (a : Int) : Prop := hT h a = 5 ∨ hT h a = 8
theorem Objs.ext {h h' : Hp} {a : Int} (hs : Objs h a) (E : Ext h h') : Objs h' a := by
  rcases hs with q | q
  · exact Or.inl (E.tag q (by decide))
  · exact Or.inr (E.tag q (by decide))
theorem x_alenO (HE : XE G X cc nL own fr lc h0) {a n : Int} (hd : decode cc pc = .ok (.arraylength, 1)) (hs : Objs h a) (hn : hL h a = n) (kk : Wx G X h0 Q h (pc + 1) lo (iV n :: st)) : Wx G X h0 Q h pc lo (rV a :: st) :=
  x_alen HE (t := hT h a) (ty := .object "java/lang/Object") hd (by rcases hs with q | q <;> rw [q] <;> simp [xAr]) rfl hn kk
theorem x_baldB (HE : XE G X cc nL own fr lc h0) {a i v : Int} (hd : decode cc pc = .ok (.baload, 1)) (hs : Byts h a) (hi : 0 ≤ i ∧ i < hL h a) (hv : hA h a i = v) (kk : Wx G X h0 Q h (pc + 1) lo (iV v :: st)) : Wx G X h0 Q h pc lo (iV i :: rV a :: st) :=
  x_bald HE hd hs rfl hi hv kk
theorem x_alenB (HE : XE G X cc nL own fr lc h0) {a n : Int} (hd : decode cc pc = .ok (.arraylength, 1)) (hs : Byts h a) (hn : hL h a = n) (kk : Wx G X h0 Q h (pc + 1) lo (iV n :: st)) : Wx G X h0 Q h pc lo (rV a :: st) :=
  x_alen HE (t := hT h a) (ty := .byte) hd (by rcases hs with q | q <;> rw [q] <;> simp [xAr]) rfl hn kk
theorem x_instS (HE : XE G X cc nL own fr lc h0) {idx : Nat} {t a : Int} {C : String} {T : u_T} {N : Nat} (hd : decode cc pc = .ok (.instanceof idx, 3)) (hC : XC t C T N) (hcl : Cond.classLink own idx C ∈ lw_all) (ht : hT h a = t) (kk : Wx G X h0 Q h (pc + 3) lo (iV 1 :: st)) : Wx G X h0 Q h pc lo (rV a :: st) := by
  obtain ⟨p, l, e, R, s, m, args, below, meth, c⟩ := X
  obtain ⟨hx2, hb, hml, hown, hts, hlk, hK, hR0, hc1, hc2, -⟩ := HE
  intro H locs ls cells slots ho hst hE hR hL hl
  have k1 := kk H locs ls cells slots ho (ok3 (v := iV 1) (show i32 1 from ⟨by decide, by decide⟩) hst) hE hR hL hl
  obtain ⟨ha, hr⟩ := hR.recv hK ht hC.1 hC.2.1
  show W p l e R s m args below meth c H locs cells slots _ (F0 m pc ls (rv a :: st.map cv))
  rw [rv_pos ha]
  exact va_instS hx2 hb hown (hts _ hcl) (hK.1 _ _ hC.2.1).2 hr hd k1
theorem x_castB (HE : XE G X cc nL own fr lc h0) {idx : Nat} {a : Int} (hd : decode cc pc = .ok (.checkcast idx, 3)) (hcl : Cond.classLink own idx "[B" ∈ lw_all) (hs : Byts h a) (kk : Wx G X h0 Q h (pc + 3) lo (rV a :: st)) : Wx G X h0 Q h pc lo (rV a :: st) := by
  obtain ⟨p, l, e, R, s, m, args, below, meth, c⟩ := X
  obtain ⟨hx2, hb, hml, hown, hts, hlk, hK, hR0, hc1, hc2, -⟩ := HE
  intro H locs ls cells slots ho hst hE hR hL hl
  have hx : (hT h a, FieldType.byte) ∈ xAr := by rcases hs with q | q <;> rw [q] <;> simp [xAr]
  have hxx := xAr_t hx
  obtain ⟨ha, hcell⟩ := hR.arr rfl hxx.1 hxx.2
  have k1 : W p l e R s m args below meth c H locs cells slots (MQ below (XQc G h0 Q) args s R.cells R.slots (fun q => G.1.size ≤ q)) (F0 m (pc + 3) ls (rv a :: st.map cv)) := kk H locs ls cells slots ho hst hE hR hL hl
  show W p l e R s m args below meth c H locs cells slots _ (F0 m pc ls (rv a :: st.map cv))
  rw [rv_pos ha] at k1 ⊢
  have hnm : s.vm.findClass "[B" = some (G.2.2.2.1 (hT h a)) := (hK.2.1 _ hx).2
  intro T hT2 XS
  obtain ⟨vm', X', stp⟩ := XS.checkcastYes hx2 hown (hts _ hcl) (by rw [hT2]; exact hcell) rfl hnm (va_asg _ _) (g := F0 m pc ls (.ref (a - 1).toNat :: st.map cv)) rfl rfl (by rw [hb]; exact hd)
  obtain ⟨t, a1, b1⟩ := k1 (T.setVm vm') hT2 X'
  exact ⟨t, stp t a1, b1⟩
theorem x_gIN (HE : XE G X cc nL own fr lc h0) {idx : Nat} {t a v : Int} {C ref host : String} {T : u_T} {N k : Nat} (hd : decode cc pc = .ok (.getfield idx, 3)) (F : FDx t k C T N 0)
    (hlink : Cond.fieldLinkNest own idx ref (T k).2.1 (T k).2.2.1 host ∈ xNest) (hsame : ref = (T k).1) (ht : hT h a = t) (hv : hF h a k = v)
    (kk : Wx G X h0 Q h (pc + 3) lo (iV v :: st)) : Wx G X h0 Q h pc lo (rV a :: st) := by
  obtain ⟨hC, hk, hkd⟩ := F
  obtain ⟨p, l, e, R, s, m, args, below, meth, c⟩ := X
  obtain ⟨hx, hb, hml, hown, hts, hlk, hK, -⟩ := HE
  intro H locs ls cells slots ho hst hE hR hL hl
  obtain ⟨ha, cell, q1, q2, q3, q4⟩ := hR.obj ht hC
  have h00 : hT h a ≠ 0 := by rw [ht]; have := hC.1; omega
  have hkok := (hR.1.2 a h00).2.1 k
  rw [ht, hv, hkd] at hkok
  obtain ⟨-, hc, hin, -⟩ := hC
  obtain ⟨hS, hfc, kC, hkC, hkind⟩ := hK.1 _ _ hc
  obtain ⟨cf, kf, fi, f, hi, hsl⟩ := hS k hk
  show W p l e R s m args below meth c H locs cells slots _ (F0 m pc ls (rv a :: st.map cv))
  rw [rv_pos ha]
  refine va_Wgetf hx hb hown (va_Nw.use (A := args) rfl (hK.2.2.1 _ hlink)) (by rw [hsame]; exact hi) (u_facts hfc hkC (u_lays (fun w hw => hts w (hin w hw)) (fun w hw => hw) hk) hi).1 q1 (by rw [q3]; exact fun h => by cases h) (v := .int (Int32.ofInt v)) ?_ rfl rfl hd ?_
  · rw [hsl, q4 k hk]
    show some (kv (kt (vwTy (tcls t) k)) (hF h a k)) = _
    rw [hv, hkd]
    rfl
  · exact kk H locs ls cells slots ho (ok3 (v := iV v) hkok hst) hE hR hL hl
/-- Math, by the library's contracts -/
theorem x_math {n : Nat} {As : List AV} {x : Int} (HE : XE G X cc nL own fr lc h0) (hlo : lo.length = nL)
    (hrow : ∀ {p : Program} {l : Launch} {e : Env} {R : Room} {s : State} {m : MethodId} {args : Array Value} {below : List Frame} {meth : Method} {c : Code} {H : Heap} {locs : List Loc} {ls : Array Slot} {cells slots : Nat} {Q' : State → Prop}, p.tables.exec = Jvm.exec → c.code = cc → c.maxLocals = ls.size → s.vm.findClass own = some m.cls → (∀ w ∈ lw_all, w.before args s = true) → R.frames = fr → R.locals = lc → cells ≤ R.cells → slots ≤ R.slots → (∀ v ∈ As ++ st, okv v) → W p l e R s m args below meth c H locs cells slots Q' (F0 m (pc + 3) ls (.int (Int32.ofInt x) :: st.map cv)) → W p l e R s m args below meth c H locs cells slots Q' (F0 m pc ls ((As ++ st).map cv)))
    (hx : (∀ v ∈ As ++ st, okv v) → i32 x) (kk : Wx G X h0 Q h (pc + 3) lo (iV x :: st)) : Wx G X h0 Q h pc lo (As ++ st) := by
  obtain ⟨p, l, e, R, s, m, args, below, meth, c⟩ := X
  obtain ⟨hx2, hb, hml, hown, hts, hlk, hK, hR0, hc1, hc2, hc3, hc4⟩ := HE
  intro H locs ls cells slots ho hst hE hR hL hl
  refine W.tight hR0 hR ?_
  have b1 := hR.2.2.2.2.1
  have b2 := hR.2.2.2.2.2.1
  have b3 := hR.2.2.2.2.2.2.1
  have e3 := hE.con 0
  exact hrow hx2 hb (hml.trans (hl.1.trans hlo).symm) hown hts hc3 hc4 (by rw [hc1]; omega) (by rw [hc2]; omega) hst (kk H locs ls _ _ ho (ok1 (v := iV x) (hx hst) (fun w hw => hst w (List.mem_append_right _ hw))) hE hR hL hl)
theorem ofIf {c d : Prop} {dc : Decidable c} {dd : Decidable d} {x y : Int} (h : c ↔ d) : Int32.ofInt (if c then x else y) = if d then Int32.ofInt x else Int32.ofInt y := by
  by_cases q : c
  · rw [if_pos q, if_pos (h.mp q)]
  · rw [if_neg q, if_neg (fun z => q (h.mpr z))]
theorem x_mmax (HE : XE G X cc nL own fr lc h0) {idx : Nat} {x y : Int} (hd : decode cc pc = .ok (.invokestatic idx, 3)) (hlo : lo.length = nL) (q1 : Cond.methodLink own idx Lib.Math.max.name ∈ lw_all) (q2 : Cond.static Lib.Math.max.name ∈ lw_all) (q3 : Cond.initialized "java/lang/Math" ∈ lw_all) (q4 : Cond.code Lib.Math.max.name Lib.Math.max.code 2 (some .int) ∈ lw_all) (hcat : catS st ≤ 8) (hfr : 1 ≤ fr) (hlc : 21 ≤ lc) (kk : Wx G X h0 Q h (pc + 3) lo (iV (if x < y then y else x) :: st)) : Wx G X h0 Q h pc lo (iV y :: iV x :: st) :=
  x_math (n := 2) (As := [iV y, iV x]) HE hlo (fun hx hb hml ho ht f1 f2 hc hs o k => va_mmax hx hb hml ho (ht _ q1) (ht _ q2) (ht _ q3) (ht _ q4) (by omega) (by have e5 := catS_spec st; show ((st.map cv).map fun v => v.category).sum + 13 ≤ _; omega) hc hs hd (by rw [ofIf (i32_lt (okt (okd o)) (okt o)).symm] at k; exact k)) (fun o => by
    have h1 : i32 y := okt o
    have h2 : i32 x := okt (okd o)
    split <;> assumption) kk
theorem x_mmin (HE : XE G X cc nL own fr lc h0) {idx : Nat} {x y : Int} (hd : decode cc pc = .ok (.invokestatic idx, 3)) (hlo : lo.length = nL) (q1 : Cond.methodLink own idx Lib.Math.min.name ∈ lw_all) (q2 : Cond.static Lib.Math.min.name ∈ lw_all) (q3 : Cond.initialized "java/lang/Math" ∈ lw_all) (q4 : Cond.code Lib.Math.min.name Lib.Math.min.code 2 (some .int) ∈ lw_all) (hcat : catS st ≤ 8) (hfr : 1 ≤ fr) (hlc : 21 ≤ lc) (kk : Wx G X h0 Q h (pc + 3) lo (iV (if y < x then y else x) :: st)) : Wx G X h0 Q h pc lo (iV y :: iV x :: st) :=
  x_math (n := 2) (As := [iV y, iV x]) HE hlo (fun hx hb hml ho ht f1 f2 hc hs o k => va_mmin hx hb hml ho (ht _ q1) (ht _ q2) (ht _ q3) (ht _ q4) (by omega) (by have e5 := catS_spec st; show ((st.map cv).map fun v => v.category).sum + 13 ≤ _; omega) hc hs hd (by rw [ofIf (i32_lt (okt o) (okt (okd o))).symm] at k; exact k)) (fun o => by
    have h1 : i32 y := okt o
    have h2 : i32 x := okt (okd o)
    split <;> assumption) kk
theorem x_mabs (HE : XE G X cc nL own fr lc h0) {idx : Nat} {x : Int} (hd : decode cc pc = .ok (.invokestatic idx, 3)) (hlo : lo.length = nL) (q1 : Cond.methodLink own idx Lib.Math.abs.name ∈ lw_all) (q2 : Cond.static Lib.Math.abs.name ∈ lw_all) (q3 : Cond.initialized "java/lang/Math" ∈ lw_all) (q4 : Cond.code Lib.Math.abs.name Lib.Math.abs.code 1 (some .int) ∈ lw_all) (hneg : i32 (0 - x)) (hcat : catS st ≤ 8) (hfr : 1 ≤ fr) (hlc : 21 ≤ lc) (kk : Wx G X h0 Q h (pc + 3) lo (iV (if 0 ≤ x then x else 0 - x) :: st)) : Wx G X h0 Q h pc lo (iV x :: st) :=
  x_math (n := 1) (As := [iV x]) HE hlo (fun hx hb hml ho ht f1 f2 hc hs o k => va_mabs hx hb hml ho (ht _ q1) (ht _ q2) (ht _ q3) (ht _ q4) (by omega) (by have e5 := catS_spec st; show ((st.map cv).map fun v => v.category).sum + 13 ≤ _; omega) hc hs hd (by rw [ofIf (i32_le i32_0 (okt o)).symm, Int32.ofInt_sub] at k; exact k)) (fun o => by
    have h2 : i32 x := okt o
    split <;> assumption) kk
/-- the class object of Object[] -/
theorem x_ldcM (HE : XE G X cc nL own fr lc h0) {idx : Nat} (hd : decode cc pc = .ok (.ldc idx, 2)) (hcl : Cond.classLink own idx "[Ljava/lang/Object;" ∈ lw_all) (kk : Wx G X h0 Q h (pc + 2) lo (rV (hF h 0 33) :: st)) : Wx G X h0 Q h pc lo st := by
  obtain ⟨p, l, e, R, s, m, args, below, meth, c⟩ := X
  obtain ⟨hx2, hb, hml, hown, hts, hlk, hK, hR0, hc1, hc2, -⟩ := HE
  intro H locs ls cells slots ho hst hE hR hL hl
  obtain ⟨h6, hp⟩ := hK.2.2.2.2.2.2.2.2.1
  have ek := hR.2.2.2.2.2.2.2.1 32
  have hp2 : 1 ≤ hF h 0 33 := by rw [ek]; exact hp
  have k1 : W p l e R s m args below meth c H locs cells slots (MQ below (XQc G h0 Q) args s R.cells R.slots (fun q => G.1.size ≤ q)) (F0 m (pc + 2) ls (rv (hF h 0 33) :: st.map cv)) := kk H locs ls cells slots ho (ok1 (v := rV _) (show (0 : Int) ≤ _ by omega) hst) hE hR hL hl
  rw [rv_pos hp2, ek] at k1
  exact va_ldcM hx2 hb hown (hts _ hcl) h6 hd k1
theorem x_getC (HE : XE G X cc nL own fr lc h0) {idx : Nat} {a : Int} (hd : decode cc pc = .ok (.invokevirtual idx, 3)) (hlo : lo.length = nL) (q1 : Cond.methodLink own idx ⟨"java/lang/Object", "getClass", "()Ljava/lang/Class;"⟩ ∈ lw_all) (q2 : Cond.selects "[Ljava/lang/Object;" ⟨"java/lang/Object", "getClass", "()Ljava/lang/Class;"⟩ ⟨"java/lang/Object", "getClass", "()Ljava/lang/Class;"⟩ ∈ lw_all) (q3 : Cond.instanceMethod ⟨"java/lang/Object", "getClass", "()Ljava/lang/Class;"⟩ ∈ lw_all) (q4 : Cond.native ⟨"java/lang/Object", "getClass", "()Ljava/lang/Class;"⟩ ∈ lw_all) (ht : hT h a = 5) (hcat : catS st ≤ 8) (hfr : 1 ≤ fr) (hlc : 22 ≤ lc) (kk : Wx G X h0 Q h (pc + 3) lo (rV (hF h 0 33) :: st)) : Wx G X h0 Q h pc lo (rV a :: st) := by
  obtain ⟨p, l, e, R, s, m, args, below, meth, c⟩ := X
  obtain ⟨hx2, hb, hml, hown, hts, hlk, hK, hR0, hc1, hc2, hc3, hc4⟩ := HE
  intro H locs ls cells slots ho hst hE hR hL hl
  obtain ⟨h6, hp⟩ := hK.2.2.2.2.2.2.2.2.1
  have hx : ((5 : Int), FieldType.object "java/lang/Object") ∈ xAr := by simp [xAr]
  have ek := hR.2.2.2.2.2.2.2.1 32
  have hp2 : 1 ≤ hF h 0 33 := by rw [ek]; exact hp
  obtain ⟨ha, hcell⟩ := hR.arr ht (by decide) (by decide)
  have k1 : W p l e R s m args below meth c H locs cells slots (MQ below (XQc G h0 Q) args s R.cells R.slots (fun q => G.1.size ≤ q)) (F0 m (pc + 3) ls (rv (hF h 0 33) :: st.map cv)) := kk H locs ls cells slots ho (ok1 (v := rV _) (show (0 : Int) ≤ _ by omega) (okd hst)) hE hR hL hl
  show W p l e R s m args below meth c H locs cells slots _ (F0 m pc ls (rv a :: st.map cv))
  rw [rv_pos hp2, ek] at k1
  rw [rv_pos ha]
  exact va_getC hx2 hb (hml.trans (hl.1.trans hlo).symm) hown (hts _ q1) (va_Dc.use hK.2.2.2.2.2.2.2.2.2.1) (hts _ q2) (hts _ q3) (hts _ q4) h6 ⟨_, hcell, rfl, va_nmO (hK.2.1 _ hx).2 rfl⟩ (by omega) (by have := catS_spec st; omega) hd k1
end ROWS
