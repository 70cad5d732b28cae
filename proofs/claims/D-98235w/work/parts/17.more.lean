/-! more rows: ldc_w, arraycopy, switches by keys, forgetting locals -/
section ROWS
variable {G : GT} {X : ET} {cc : ByteArray} {nL fr lc : Nat} {own : String} {h0 h : Hp} {Q : Option AV → Hp → Prop} {pc : Nat} {lo : List (Option AV)} {st : List AV}
theorem x_ldcwI (HE : XE G X cc nL own fr lc h0) {idx : Nat} {v : Int32} {n : Int} (hd : decode cc pc = .ok (.ldc_w idx, 3)) (hc : Jvm.Cond.constant own idx v ∈ lw_all) (hn : i32 n) (hv : v = Int32.ofInt n) (kk : Wx G X h0 Q h (pc + 3) lo (iV n :: st)) : Wx G X h0 Q h pc lo st :=
  Wx.step HE (ok1 (v := iV n) hn) (fun hx hb ho ht _ _ _ _ k => lv_ldcw hx hb ho (ht _ hc) hd (by rw [hv]; exact k)) kk
theorem stand_ldcwS {p : Program} {l : Launch} {e : Env} {R : Room} {s : State} {m : MethodId} {args : Array Value} {below : List Frame} {meth : Method} {c : Code} {T : State} {locs : List Loc} {cells slots : Nat}
    (X : Stand p l e R s m args below meth c T locs cells slots) (hexec : p.tables.exec = Jvm.exec) {own text : String} {index : Nat} {a : Addr} (hown : s.vm.findClass own = some m.cls)
    (hconst : (Cond.stringRef own index text).before args s = true) (hev : (Term.string own index).eval args s none [] s = some (.ref a)) {g : JFrame} (hg : g.method = m) (hdg : decode c.code g.pc = .ok (.ldc_w index, 3)) :
    ∀ target, Steps p.tables e below (T.setTop { g with pc := g.pc + 3, stack := .ref a :: g.stack }) target → Steps p.tables e below (T.setTop g) target := by
  obtain ⟨k, cf, i, a', hk, hcf, hcp, -, hr, hev'⟩ := Cond.stringRef_spec hown hconst
  cases hev.symm.trans hev'
  obtain ⟨k', hk', he⟩ := X.warmed.alike.2.2 _ _ hk
  have hr' : k'.resolved[index]? = some (some (.string a)) := by
    rcases X.warmed.entry hk hk' index with h | ⟨h, -⟩
    · rw [h]; exact hr
    · rw [hr] at h; cases h
  intro target hrest
  subst hg
  jvm_step X.here [hexec, hdg, ldc_w.wp_string (e := e) (s := T) (f := g) X.here.top hk' (by rw [he]; exact hcf) hcp hr']
  exact hrest
theorem x_ldcwS (HE : XE G X cc nL own fr lc h0) {idx k : Nat} {tx : String} (hd : decode cc pc = .ok (.ldc_w idx, 3)) (hx : (own, idx, tx, k) ∈ xStr) (kk : 1 ≤ hF h 0 (k + 1) → Wx G X h0 Q h (pc + 3) lo (rV (hF h 0 (k + 1)) :: st)) : Wx G X h0 Q h pc lo st := by
  obtain ⟨p, l, e, R, s, m, args, below, meth, c⟩ := X
  obtain ⟨hx2, hb, hml, hown, hts, hlk, hK, hR0, hc1, hc2, -⟩ := HE
  intro H locs ls cells slots ho hst hE hR hL hl
  obtain ⟨h6, hp⟩ := hK.2.2.2.2.2.1 _ hx
  have ek := hR.2.2.2.2.2.2.2.1 k
  have hp2 : 1 ≤ hF h 0 (k + 1) := by rw [ek]; exact hp
  have k1 := kk hp2 H locs ls cells slots ho (ok1 (v := rV _) (show (0 : Int) ≤ _ by omega) hst) hE hR hL hl
  have k2 : W p l e R s m args below meth c H locs cells slots (MQ below (XQc G h0 Q) args s R.cells R.slots (fun q => G.1.size ≤ q)) (F0 m (pc + 3) ls (rv (hF h 0 (k + 1)) :: st.map cv)) := k1
  rw [rv_pos hp2, ek] at k2
  intro T hT XS
  obtain ⟨t, a1, b1⟩ := k2 T hT XS
  exact ⟨t, stand_ldcwS XS hx2 hown h6.1 h6.2 (g := F0 m pc ls (st.map cv)) rfl (by rw [hb]; exact hd) t a1, b1⟩
def xmask : List Bool → List (Option AV) → List (Option AV)
  | [], lo => lo
  | _, [] => []
  | true :: bs, v :: t => v :: xmask bs t
  | false :: bs, _ :: t => none :: xmask bs t
theorem xmask_spec : ∀ (bs : List Bool) (lo : List (Option AV)), (xmask bs lo).length = lo.length ∧ ∀ (i : Nat) (v : AV), (xmask bs lo)[i]? = some (some v) → lo[i]? = some (some v)
  | [], lo => ⟨rfl, fun _ _ h => h⟩
  | true :: _, [] => ⟨rfl, fun _ _ h => h⟩
  | false :: _, [] => ⟨rfl, fun _ _ h => h⟩
  | true :: bs, w :: t => by
    have ih := xmask_spec bs t
    refine ⟨by simp [xmask, ih.1], fun i v h => ?_⟩
    cases i with
    | zero => simpa [xmask] using h
    | succ i => simp only [xmask, List.getElem?_cons_succ] at h ⊢; exact ih.2 i v h
  | false :: bs, w :: t => by
    have ih := xmask_spec bs t
    refine ⟨by simp [xmask, ih.1], fun i v h => ?_⟩
    cases i with
    | zero => simp [xmask] at h
    | succ i => simp only [xmask, List.getElem?_cons_succ] at h ⊢; exact ih.2 i v h
theorem Wx.mask (bs : List Bool) {lo2 : List (Option AV)} (hl : xmask bs lo = lo2) (kk : Wx G X h0 Q h pc lo2 st) : Wx G X h0 Q h pc lo st := by
  subst hl
  exact Wx.less (xmask_spec bs lo).1 (xmask_spec bs lo).2 kk
/-- stores, with a name for what is stored -/
theorem x_istore_nN (HE : XE G X cc nL own fr lc h0) {k : Fin 4} (i : Nat) {x : Int} (lo' : Int → List (Option AV)) (hd : decode cc pc = .ok (.istore_n k, 1)) (hi : (k : Nat) = i) (hn : i < lo.length) (hl : ∀ y, lo.set i (some (iV y)) = lo' y) (kk : ∀ y, y = x → Wx G X h0 Q h (pc + 1) (lo' y) st) : Wx G X h0 Q h pc lo (iV x :: st) :=
  x_istore_n HE i hd hi hn (hl x) (kk x rfl)
theorem x_istoreN (HE : XE G X cc nL own fr lc h0) {i : Nat} {x : Int} (lo' : Int → List (Option AV)) (hd : decode cc pc = .ok (.istore i, 2)) (hn : i < lo.length) (hl : ∀ y, lo.set i (some (iV y)) = lo' y) (kk : ∀ y, y = x → Wx G X h0 Q h (pc + 2) (lo' y) st) : Wx G X h0 Q h pc lo (iV x :: st) :=
  x_istore HE hd hn (hl x) (kk x rfl)
theorem x_astore_nN (HE : XE G X cc nL own fr lc h0) {k : Fin 4} (i : Nat) {x : Int} (lo' : Int → List (Option AV)) (hd : decode cc pc = .ok (.astore_n k, 1)) (hi : (k : Nat) = i) (hn : i < lo.length) (hl : ∀ y, lo.set i (some (rV y)) = lo' y) (kk : ∀ y, y = x → Wx G X h0 Q h (pc + 1) (lo' y) st) : Wx G X h0 Q h pc lo (rV x :: st) :=
  x_astore_n HE i hd hi hn (hl x) (kk x rfl)
theorem x_astoreN (HE : XE G X cc nL own fr lc h0) {i : Nat} {x : Int} (lo' : Int → List (Option AV)) (hd : decode cc pc = .ok (.astore i, 2)) (hn : i < lo.length) (hl : ∀ y, lo.set i (some (rV y)) = lo' y) (kk : ∀ y, y = x → Wx G X h0 Q h (pc + 2) (lo' y) st) : Wx G X h0 Q h pc lo (rV x :: st) :=
  x_astore HE hd hn (hl x) (kk x rfl)
theorem x_iincN (HE : XE G X cc nL own fr lc h0) {i : Nat} {n x : Int} (lo' : Int → List (Option AV)) (hd : decode cc pc = .ok (.iinc i n, 3)) (hk : lo[i]? = some (some (iV x))) (hr : i32 (x + n)) (hn : i < lo.length) (hl : ∀ y, lo.set i (some (iV y)) = lo' y) (kk : ∀ y, y = x + n → Wx G X h0 Q h (pc + 3) (lo' y) st) : Wx G X h0 Q h pc lo st :=
  x_iinc HE hd hk hr hn (hl _) (kk _ rfl)
theorem x_newN (HE : XE G X cc nL own fr lc h0) {idx : Nat} {t : Int} {C : String} {T : u_T} {N : Nat} (hd : decode cc pc = .ok (.new idx, 3)) (hC : XC t C T N) (hn40 : N ≤ 40) (hro : ¬ roT t)
    (hcl : Cond.classLink own idx C ∈ lw_all) (hins : Cond.instantiable C N ∈ lw_all) (hini : Cond.initialized C ∈ lw_all) (hcap : capOK h N)
    (kk : ∀ (a : Int) (h1 : Hp), a = hN h → h1 = alloc h t 0 N → Ext h h1 → WFa h → Wx G X h0 Q h1 (pc + 3) lo (rV a :: st)) : Wx G X h0 Q h pc lo st :=
  x_new HE hd hC hn40 hro hcl hins hini hcap (fun h1 e1 E w => kk _ h1 rfl e1 E w)
theorem x_newIN (HE : XE G X cc nL own fr lc h0) {n : Int} (hd : decode cc pc = .ok (.newarray .int, 2)) (harr : Cond.arrayClass .int ∈ lw_all) (hn : 0 ≤ n ∧ n ≤ 67108864) (hcap : capOK h n)
    (kk : ∀ (a : Int) (h1 : Hp), a = hN h → h1 = alloc h 1 n n → Ext h h1 → WFa h → Wx G X h0 Q h1 (pc + 2) lo (rV a :: st)) : Wx G X h0 Q h pc lo (iV n :: st) :=
  x_newI HE hd harr hn hcap (fun h1 e1 E w => kk _ h1 rfl e1 E w)
theorem x_newBN (HE : XE G X cc nL own fr lc h0) {n : Int} (hd : decode cc pc = .ok (.newarray .byte, 2)) (harr : Cond.arrayClass .byte ∈ lw_all) (hn : 0 ≤ n ∧ n ≤ 67108864) (hcap : capOK h n)
    (kk : ∀ (a : Int) (h1 : Hp), a = hN h → h1 = alloc h 2 n n → Ext h h1 → WFa h → Wx G X h0 Q h1 (pc + 2) lo (rV a :: st)) : Wx G X h0 Q h pc lo (iV n :: st) :=
  x_newB HE hd harr hn hcap (fun h1 e1 E w => kk _ h1 rfl e1 E w)
theorem x_newZN (HE : XE G X cc nL own fr lc h0) {n : Int} (hd : decode cc pc = .ok (.newarray .boolean, 2)) (harr : Cond.arrayClass .boolean ∈ lw_all) (hn : 0 ≤ n ∧ n ≤ 67108864) (hcap : capOK h n)
    (kk : ∀ (a : Int) (h1 : Hp), a = hN h → h1 = alloc h 3 n n → Ext h h1 → WFa h → Wx G X h0 Q h1 (pc + 2) lo (rV a :: st)) : Wx G X h0 Q h pc lo (iV n :: st) :=
  x_newZ HE hd harr hn hcap (fun h1 e1 E w => kk _ h1 rfl e1 E w)
theorem x_newJN (HE : XE G X cc nL own fr lc h0) {n : Int} (hd : decode cc pc = .ok (.newarray .long, 2)) (harr : Cond.arrayClass .long ∈ lw_all) (hn : 0 ≤ n ∧ n ≤ 67108864) (hcap : capOK h n)
    (kk : ∀ (a : Int) (h1 : Hp), a = hN h → h1 = alloc h 4 n n → Ext h h1 → WFa h → Wx G X h0 Q h1 (pc + 2) lo (rV a :: st)) : Wx G X h0 Q h pc lo (iV n :: st) :=
  x_newJ HE hd harr hn hcap (fun h1 e1 E w => kk _ h1 rfl e1 E w)
theorem x_anewN (HE : XE G X cc nL own fr lc h0) {idx : Nat} {t n : Int} (hd : decode cc pc = .ok (.anewarray idx, 3)) (hq : t = 5 ∨ t = 6) (hcl : Cond.classLink own idx (xComp t) ∈ lw_all) (hn : 0 ≤ n ∧ n ≤ 67108864) (hcap : capOK h n)
    (kk : ∀ (a : Int) (h1 : Hp), a = hN h → h1 = alloc h t n n → Ext h h1 → WFa h → Wx G X h0 Q h1 (pc + 3) lo (rV a :: st)) : Wx G X h0 Q h pc lo (iV n :: st) :=
  x_anew HE hd hq hcl hn hcap (fun h1 e1 E w => kk _ h1 rfl e1 E w)
theorem lsw_off {x d : Int} : ∀ {ps : List (Int × Int)}, (∀ q ∈ ps, x ≠ q.1) → Op.lookupswitch.offset ps d x = d
  | [], _ => rfl
  | q :: r, h => by
    rw [Op.lookupswitch.offset_cons, if_neg (fun e => h q List.mem_cons_self e.symm)]
    exact lsw_off (fun z hz => h z (List.mem_cons_of_mem _ hz))
theorem ix_of {a i n : Int} (hn : hL h a = n) (hi : 0 ≤ i ∧ i < n) : 0 ≤ i ∧ i < hL h a := by rw [hn]; exact hi
theorem alloc_tag {h1 : Hp} {a t len n : Int} (ha : a = hN h) (h1e : h1 = alloc h t len n) : hT h1 a = t := by
  subst h1e; subst ha; exact if_pos rfl
theorem alloc_len {h1 : Hp} {a t len n : Int} (ha : a = hN h) (h1e : h1 = alloc h t len n) : hL h1 a = len := by
  subst h1e; subst ha; exact if_pos rfl
theorem tag_pos {a t : Int} (hw : WFa h) (ht : hT h a = t) (h0 : t ≠ 0) : 1 ≤ a := (hw.2 a (by rw [ht]; exact h0)).1
end ROWS
theorem Rel.put {G : GT} {h : Hp} {H H' : Heap} {t a : Int} {f : Int → Int} (hR : Rel G H h) (ht : hT h a = t) (h9 : t < 9) (hz : t ≠ 0) (hro : ¬ roT t) (hk : ∀ j, kok (ekind t) (f j))
    (e1 : H'[(a - 1).toNat]? = some (arrV (G.2.2.2.1 t) (hL h a).toNat (fun j => kv (ekind t) (f j)))) (e2 : H'.size = H.size) (e3 : ∀ q, q ≠ (a - 1).toNat → H'[q]? = H[q]?) : Rel G H' (putA h a f) := by
  subst ht
  obtain ⟨ha, hc⟩ := hR.arr rfl h9 hz
  refine hR.upd (h' := putA h a f) hz hro rfl rfl rfl rfl (fun b hb => ⟨rfl, if_neg hb⟩) (fun j => (hR.1.2 a hz).2.1 j) (fun j => ?_) ?_ e2 e3 ?_
  · show kok _ ((if a = a then f else _) j)
    rw [if_pos rfl]; exact hk j
  · refine ⟨fun _ => ?_, fun q => absurd h9 (by have : 9 ≤ hT h a := q; omega)⟩
    rw [e1]
    show some (arrV _ _ _) = some (arrV (G.2.2.2.1 (hT h a)) (hL h a).toNat (fun j : Nat => kv (ekind (hT h a)) ((if a = a then f else hA h a) j)))
    rw [if_pos rfl]
  · rw [e1, hc]
    simp [arrV_size]
def cpyA (f g : Int → Int) (sp dp n : Int) : Int → Int := fun j => if dp ≤ j ∧ j < dp + n then f (sp + (j - dp)) else g j
theorem va_cpy_A (k : Nat) (f g : Int → Int) {sp dp n : Int} (h1 : 0 ≤ sp) (h2 : 0 ≤ dp) (h3 : 0 ≤ n) : (fun j : Nat => kv k (va_cpy (fun j : Nat => f j) (fun j : Nat => g j) sp.toNat dp.toNat n.toNat j)) = (fun j : Nat => kv k (cpyA f g sp dp n j)) := by
  funext j
  unfold va_cpy cpyA
  by_cases q : dp ≤ (j : Int) ∧ (j : Int) < dp + n
  · rw [if_pos q, if_pos (by omega)]
    show kv k (f ((sp.toNat + (j - dp.toNat) : Nat) : Int)) = kv k (f (sp + ((j : Int) - dp)))
    rw [show ((sp.toNat + (j - dp.toNat) : Nat) : Int) = sp + ((j : Int) - dp) by omega]
  · rw [if_neg q, if_neg (by omega)]
section CPY
variable {G : GT} {X : ET} {cc : ByteArray} {nL fr lc : Nat} {own : String} {h0 h : Hp} {Q : Option AV → Hp → Prop} {pc : Nat} {lo : List (Option AV)} {st : List AV}
theorem i32_neg {x : Int} (hx : i32 x) (h : 0 ≤ x) : ¬ Int32.ofInt x < 0 := fun q => by have := (i32_lt hx i32_0).mp q; omega
theorem i32_cl {x : Int} (hx : i32 x) : (Int32.ofInt x).toNatClampNeg = x.toNat := by show (Int32.ofInt x).toInt.toNat = _; rw [i32_toInt hx]
theorem x_cpy (HE : XE G X cc nL own fr lc h0) {idx : Nat} {t a0 a sp dp n : Int} {ty : FieldType} (hd : decode cc pc = .ok (.invokestatic idx, 3)) (hlo : lo.length = nL) (hlink : Cond.methodLink own idx arraycopyName ∈ lw_all) (hnat : Cond.native arraycopyName ∈ lw_all) (hstat : Cond.static arraycopyName ∈ lw_all) (hini : Cond.initialized "java/lang/System" ∈ lw_all)
    (hx : (t, ty) ∈ xAr) (hro : ¬ roT t) (hT0 : hT h a0 = t) (hT1 : hT h a = t) (hb0 : 0 ≤ sp ∧ 0 ≤ dp ∧ 0 ≤ n) (hb1 : sp + n ≤ hL h a0) (hb2 : dp + n ≤ hL h a)
    (hfit : ∀ i : Int, sp ≤ i → i < sp + n → fits ty (kv (ekind t) (hA h a0 i)) = true ∧ (ekind t = 1 → hA h a0 i = 0 ∨ ∃ u, hT h (hA h a0 i) = u ∧ (t, u) ∈ xTak) ∧ ekind t ≠ 2)
    (hcat : catS st ≤ 8) (hfr : 1 ≤ fr) (hlc : 8 + (nativeFrameWords "java/lang/System" "arraycopy" 5 + 11) ≤ lc)
    (kk : ∀ h1 : Hp, h1 = putA h a (cpyA (hA h a0) (hA h a) sp dp n) → Ext h h1 → Wx G X h0 Q h1 (pc + 3) lo st) : Wx G X h0 Q h pc lo (iV n :: iV dp :: rV a :: iV sp :: rV a0 :: st) := by
  obtain ⟨p, l, e, R, s, m, args, below, meth, c⟩ := X
  obtain ⟨hx2, hb, hml, hown, hts, hlk, hK, hR0, hc1, hc2, hc3, hc4⟩ := HE
  intro H locs ls cells slots ho hst hE hR hLo hl
  have hxx := xAr_t hx
  obtain ⟨ha0, hcell0⟩ := hR.arr hT0 hxx.1 hxx.2
  obtain ⟨ha, hcell⟩ := hR.arr hT1 hxx.1 hxx.2
  have hn0 : hT h a0 ≠ 0 := by rw [hT0]; exact hxx.2
  have hn1 : hT h a ≠ 0 := by rw [hT1]; exact hxx.2
  have hown2 : (G.1.size : Int) < a := by
    rcases (hR.1.2 a hn1).2.2.2 with q | q
    · exact absurd (by rw [hT1] at q; exact q) hro
    · exact q
  have o1 : i32 n := okt hst
  have o2 : i32 dp := okt (okd hst)
  have o3 : i32 sp := okt (okd (okd (okd hst)))
  obtain ⟨-, k0, hk0, cm0, hkk0⟩ := (hK.2.1 _ hx).1 (hL h a0).toNat (fun j => kv (ekind t) (hA h a0 j))
  obtain ⟨-, k1, hk1, cm1, hkk1⟩ := (hK.2.1 _ hx).1 (hL h a).toNat (fun j => kv (ekind t) (hA h a j))
  have E1 : Ext h (putA h a (cpyA (hA h a0) (hA h a) sp dp n)) := Ext.putA
  show W p l e R s m args below meth c H locs cells slots _ (F0 m pc ls (.int (Int32.ofInt n) :: .int (Int32.ofInt dp) :: rv a :: .int (Int32.ofInt sp) :: rv a0 :: st.map cv))
  rw [rv_pos ha, rv_pos ha0]
  intro T hT2 XS
  have hcs := catS_spec st
  obtain ⟨vm', X', step⟩ := XS.arraycopy hx2 hown (hts _ hlink) (hts _ hnat) (hts _ hstat) (hts _ hini) (src := (a0 - 1).toNat) (dst := (a - 1).toNat) (cs := arrV (G.2.2.2.1 t) (hL h a0).toNat (fun j => kv (ekind t) (hA h a0 j))) (cd := arrV (G.2.2.2.1 t) (hL h a).toNat (fun j => kv (ekind t) (hA h a j))) (srcPos := Int32.ofInt sp) (destPos := Int32.ofInt dp) (n := Int32.ofInt n) (by rw [hT2]; exact hcell0) (by rw [hT2]; exact hcell)
    (fun _ z => by cases z) (fun _ z => by cases z) (fun z => by cases z) (fun z => by cases z) hk0 hk1 hkk0 hkk1 (by simp) (i32_neg o3 hb0.1) (i32_neg o2 hb0.2.1) (i32_neg o1 hb0.2.2)
    (by rw [i32_toInt o3, i32_toInt o1, arrV_size]; omega)
    (by rw [i32_toInt o2, i32_toInt o1, arrV_size]; omega)
    (fun vm₁ hal i hi => by
      rw [i32_cl o1] at hi
      rw [i32_cl o3]
      have e : (arrV (G.2.2.2.1 t) (hL h a0).toNat (fun j => kv (ekind t) (hA h a0 j))).slots.getD (sp.toNat + i) .null = kv (ekind t) (hA h a0 (sp + i)) := by
        rw [Array.getD_eq_getD_getElem?, arrV_read _ _ (by omega)]
        show kv (ekind t) (hA h a0 ((sp.toNat + i : Nat) : Int)) = _
        congr 2
        omega
      rw [e]
      obtain ⟨f1, f2, f3⟩ := hfit (sp + i) (by omega) (by omega)
      refine ⟨f1, ?_⟩
      match hek : ekind t with
      | 0 => exact trivial
      | 1 =>
        show State.takes _ _ (rv (hA h a0 (sp + i)))
        rcases f2 hek with z | ⟨u, z1, z2⟩
        · rw [z]; exact trivial
        · obtain ⟨r, hc, hcast, hx5, h9, hro5, hek5⟩ := xTak_cast _ z2
          obtain ⟨hv1, cellV, g1, g2, g3⟩ := hR.recv hK z1 h9 hc
          rw [rv_pos hv1]
          obtain ⟨kA, comp, r1, r2, r3, -⟩ := (hK.2.1 _ hx5).2
          cases hk1.symm.trans r1
          have r2' := hkk1.symm.trans r2
          injection r2' with r4 r5
          subst r4
          obtain ⟨c0, t0, w1, w2, w3⟩ := Cond.castable_spec (va_Nw.use (A := args) rfl (hK.2.2.1 _ hcast))
          cases g3.symm.trans w1
          cases r3.symm.trans w2
          obtain ⟨kC, hkC, -⟩ := Vm.findClass_spec g3
          obtain ⟨kE, hkE, -⟩ := Vm.findClass_spec r3
          obtain ⟨kC', hkC', -⟩ := hal.2.2 _ _ hkC
          obtain ⟨kE', hkE', -⟩ := hal.2.2 _ _ hkE
          refine ⟨cellV, (show T.heap[_]? = some cellV by rw [hT2]; exact g1), (fun q z => by rw [z] at g2; cases g2), ⟨kC', hkC'⟩, ⟨kE', hkE'⟩, ?_⟩
          show vm₁.assignable _ _ = true
          rw [hal.assignable]
          exact w3
      | 2 => exact absurd hek f3
      | k + 3 => exact trivial)
    (g := F0 m pc ls (.int (Int32.ofInt n) :: .int (Int32.ofInt dp) :: .ref (a - 1).toNat :: .int (Int32.ofInt sp) :: .ref (a0 - 1).toNat :: st.map cv)) rfl (by rw [hml]; exact hl.1.trans hlo) (rest := st.map cv) rfl (by rw [hb]; exact hd) (by omega) (by
      show 2 * 0 + _ + _ ≤ _
      omega)
  have e1 : copied (arrV (G.2.2.2.1 t) (hL h a0).toNat (fun j => kv (ekind t) (hA h a0 j))) (arrV (G.2.2.2.1 t) (hL h a).toNat (fun j => kv (ekind t) (hA h a j))) (Int32.ofInt sp) (Int32.ofInt dp) (Int32.ofInt n) = arrV (G.2.2.2.1 t) (hL h a).toNat (fun j => kv (ekind t) (cpyA (hA h a0) (hA h a) sp dp n j)) := by
    unfold copied
    rw [i32_cl o1, i32_cl o2, i32_cl o3]
    rw [va_copied (kv (ekind t)) _ _ (fun j : Nat => hA h a0 j) (fun j : Nat => hA h a j) (by omega), va_cpy_A _ _ _ hb0.1 hb0.2.1 hb0.2.2]
  rw [e1] at X' step
  have hlt : (a - 1).toNat < H.size := (Array.getElem?_eq_some_iff.mp hcell).1
  have hheap : ((T.setVm vm').setCell (a - 1).toNat (arrV (G.2.2.2.1 t) (hL h a).toNat (fun j => kv (ekind t) (cpyA (hA h a0) (hA h a) sp dp n j)))).heap = H.setIfInBounds (a - 1).toNat (arrV (G.2.2.2.1 t) (hL h a).toNat (fun j => kv (ekind t) (cpyA (hA h a0) (hA h a) sp dp n j))) := by rw [← hT2]; rfl
  have hR1 : Rel G (H.setIfInBounds (a - 1).toNat (arrV (G.2.2.2.1 t) (hL h a).toNat (fun j => kv (ekind t) (cpyA (hA h a0) (hA h a) sp dp n j)))) (putA h a (cpyA (hA h a0) (hA h a) sp dp n)) := by
    refine hR.put hT1 hxx.1 hxx.2 hro (fun j => ?_) (Array.getElem?_setIfInBounds_self_of_lt hlt) (by simp) (fun q hq => Array.getElem?_setIfInBounds_ne (Ne.symm hq))
    have w0 := (hR.1.2 a0 hn0).2.2.1
    have w1 := (hR.1.2 a hn1).2.2.1
    rw [hT0] at w0
    rw [hT1] at w1
    unfold cpyA
    split
    · exact w0 _
    · exact w1 _
  obtain ⟨t2, a1, b1⟩ := kk _ rfl E1 _ _ ls _ _ ho (okd (okd (okd (okd (okd hst))))) (hE.tr E1) hR1 (fun q hq => by
      rcases List.mem_append.mp hq with z | z
      · exact hLo q z
      · obtain ⟨w, -, hw⟩ := List.mem_map.mp z
        rw [← hw]
        show G.1.size ≤ (a - 1).toNat
        omega) hl _ hheap X'
  exact ⟨t2, step t2 a1, b1⟩
end CPY
