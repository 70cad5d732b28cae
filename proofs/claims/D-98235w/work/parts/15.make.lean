/-! rows of Wx that make cells; references in arrays; casts; constants; ends -/
theorem xAr_t {t : Int} {ty : FieldType} (hx : (t, ty) ∈ xAr) : t < 9 ∧ t ≠ 0 := by
  simp only [xAr, List.mem_cons, List.not_mem_nil, or_false, Prod.mk.injEq] at hx
  omega
/-- pairs (array tag, object tag): the object may stand in the array -/
def xTak : List (Int × Int) := [(5, 13), (5, 14), (5, 15), (5, 16), (5, 17), (6, 27), (6, 28), (6, 29), (6, 30), (6, 31)]
def xComp (t : Int) : String := if t = 6 then "NextAtBar$Rule" else "java/lang/Object"
theorem xTak_cast : ∀ q ∈ xTak, ∃ r : vw_C, vwCl[tcls q.2]? = some r ∧ Cond.castable r.1 (xComp q.1) ∈ xNest ∧ (q.1, FieldType.object (xComp q.1)) ∈ xAr ∧ 9 ≤ q.2 ∧ ¬ roT q.1 ∧ ekind q.1 = 1 := by
  have key : ∀ (t u : Int) (r : vw_C) (C : String), vwCl[tcls u]? = some r → C = xComp t → Cond.castable r.1 C ∈ xNest → (t, FieldType.object C) ∈ xAr → 9 ≤ u → ¬ roT t → ekind t = 1 → ∃ r : vw_C, vwCl[tcls u]? = some r ∧ Cond.castable r.1 (xComp t) ∈ xNest ∧ (t, FieldType.object (xComp t)) ∈ xAr ∧ 9 ≤ u ∧ ¬ roT t ∧ ekind t = 1 := by
    intro t u r C h1 h2 h3 h4 h5 h6 h7
    subst h2
    exact ⟨r, h1, h3, h4, h5, h6, h7⟩
  intro q hq
  simp only [xTak, List.mem_cons, List.not_mem_nil, or_false] at hq
  have r5 : ¬ roT 5 := by unfold roT; omega
  have r6 : ¬ roT 6 := by unfold roT; omega
  have a5 : ((5 : Int), FieldType.object "java/lang/Object") ∈ xAr := by simp [xAr]
  have a6 : ((6 : Int), FieldType.object "NextAtBar$Rule") ∈ xAr := by simp [xAr]
  rcases hq with rfl | rfl | rfl | rfl | rfl | rfl | rfl | rfl | rfl | rfl
  · exact key 5 13 _ "java/lang/Object" rfl rfl (by decide +kernel) a5 (by decide) r5 rfl
  · exact key 5 14 _ "java/lang/Object" rfl rfl (by decide +kernel) a5 (by decide) r5 rfl
  · exact key 5 15 _ "java/lang/Object" rfl rfl (by decide +kernel) a5 (by decide) r5 rfl
  · exact key 5 16 _ "java/lang/Object" rfl rfl (by decide +kernel) a5 (by decide) r5 rfl
  · exact key 5 17 _ "java/lang/Object" rfl rfl (by decide +kernel) a5 (by decide) r5 rfl
  · exact key 6 27 _ "NextAtBar$Rule" rfl rfl (by decide +kernel) a6 (by decide) r6 rfl
  · exact key 6 28 _ "NextAtBar$Rule" rfl rfl (by decide +kernel) a6 (by decide) r6 rfl
  · exact key 6 29 _ "NextAtBar$Rule" rfl rfl (by decide +kernel) a6 (by decide) r6 rfl
  · exact key 6 30 _ "NextAtBar$Rule" rfl rfl (by decide +kernel) a6 (by decide) r6 rfl
  · exact key 6 31 _ "NextAtBar$Rule" rfl rfl (by decide +kernel) a6 (by decide) r6 rfl
/-- an object's cell, as the calls and casts ask for it -/
theorem Rel.recv {G : GT} {h : Hp} {H : Heap} {a t : Int} {r : vw_C} {U : State} (hR : Rel G H h) (hK : GK G U) (ht : hT h a = t) (h9 : 9 ≤ t) (hc : vwCl[tcls t]? = some r) : 1 ≤ a ∧ ∃ cell : Cell, H[(a - 1).toNat]? = some cell ∧ cell.vm.isStatics = false ∧ U.vm.findClass r.1 = some cell.cls := by
  subst ht
  have h0 : hT h a ≠ 0 := by omega
  obtain ⟨r', h1, cell, q1, q2, q3, -⟩ := (hR.2.2.2.2.2.2.2.2.1 a h0).2 h9
  cases h1.symm.trans hc
  exact ⟨(hR.1.1.2 a h0).1, cell, q1, by rw [q3]; rfl, by rw [q2]; exact (hK.1 _ _ hc).2.1⟩
section ROWS
variable {G : GT} {X : ET} {cc : ByteArray} {nL fr lc : Nat} {own : String} {h0 h : Hp} {Q : Option AV → Hp → Prop} {pc : Nat} {lo : List (Option AV)} {st : List AV}
theorem x_aast (HE : XE G X cc nL own fr lc h0) {t u a i v : Int} (hd : decode cc pc = .ok (.aastore, 1)) (hq : (t, u) ∈ xTak) (ht : hT h a = t) (hu : hT h v = u) (hi : 0 ≤ i ∧ i < hL h a) (kk : ∀ h1 : Hp, h1 = setA h a i v → Ext h h1 → Wx G X h0 Q h1 (pc + 1) lo st) : Wx G X h0 Q h pc lo (rV v :: iV i :: rV a :: st) := by
  obtain ⟨r, hc, hcast, hx, h9, hro, hek⟩ := xTak_cast _ hq
  obtain ⟨p, l, e, R, s, m, args, below, meth, c⟩ := X
  obtain ⟨hx2, hb, hml, hown, hts, hlk, hK, -⟩ := HE
  intro H locs ls cells slots ho hst hE hR hL hl
  have hxx := xAr_t hx
  obtain ⟨ha, hcell⟩ := hR.arr ht hxx.1 hxx.2
  have hown2 : (G.1.size : Int) < a := by
    rcases (hR.1.2 a (by rw [ht]; exact hxx.2)).2.2.2 with q | q
    · exact absurd (by rw [ht] at q; exact q) hro
    · exact q
  obtain ⟨hv1, cellV, g1, g2, g3⟩ := hR.recv hK hu h9 hc
  obtain ⟨hin, hix⟩ := i32_idx (okt (okd hst)) hi.1 hi.2
  obtain ⟨kA, comp, k1, k2, k3, -⟩ := (hK.2.1 _ hx).2
  obtain ⟨c0, t0, f1, f2, f3⟩ := Cond.castable_spec (va_Nw.use (A := args) rfl (hK.2.2.1 _ hcast))
  cases g3.symm.trans f1
  cases k3.symm.trans f2
  obtain ⟨kC, hkC, -⟩ := Vm.findClass_spec f2
  obtain ⟨kV2, hkV2, -⟩ := Vm.findClass_spec g3
  have E1 : Ext h (setA h a i v) := Ext.setA
  show W p l e R s m args below meth c H locs cells slots _ (F0 m pc ls (rv v :: .int (Int32.ofInt i) :: rv a :: st.map cv))
  rw [rv_pos ha, rv_pos hv1]
  refine W.aast hx2 hb hcell (fun q h => by cases h) (fun h => by cases h) k1 k2 rfl hkC ⟨fun q => hin (Or.inl q), by rw [arrV_size]; exact Nat.not_le.mp fun q => hin (Or.inr q)⟩ g1 (fun q h => by rw [h] at g2; cases g2) hkV2 f3 rfl rfl hd (fun H' e1 e2 e3 => ?_)
  rw [hix] at e1
  refine kk _ rfl E1 H' _ ls cells slots ho (okd (okd (okd hst))) (hE.tr E1) (hR.stored ht hxx.1 hxx.2 hro hi (by rw [hek, kv1, rv_pos hv1]) (by rw [hek]; exact okt hst) e1 e2 e3) (fun q hq => ?_) hl
  rcases List.mem_append.mp hq with z | z
  · exact hL q z
  · rw [List.mem_singleton.mp z]
    show G.1.size ≤ (a - 1).toNat
    omega
theorem x_aastN (HE : XE G X cc nL own fr lc h0) {t a i : Int} (hd : decode cc pc = .ok (.aastore, 1)) (hq : t = 5 ∨ t = 6) (ht : hT h a = t) (hi : 0 ≤ i ∧ i < hL h a) (kk : ∀ h1 : Hp, h1 = setA h a i 0 → Ext h h1 → Wx G X h0 Q h1 (pc + 1) lo st) : Wx G X h0 Q h pc lo (rV 0 :: iV i :: rV a :: st) := by
  have hx : (t, FieldType.object (xComp t)) ∈ xAr := by rcases hq with rfl | rfl <;> simp [xAr, xComp]
  have hro : ¬ roT t := by unfold roT; omega
  have hek : ekind t = 1 := by rcases hq with rfl | rfl <;> rfl
  obtain ⟨p, l, e, R, s, m, args, below, meth, c⟩ := X
  obtain ⟨hx2, hb, hml, hown, hts, hlk, hK, -⟩ := HE
  intro H locs ls cells slots ho hst hE hR hL hl
  have hxx := xAr_t hx
  obtain ⟨ha, hcell⟩ := hR.arr ht hxx.1 hxx.2
  have hown2 : (G.1.size : Int) < a := by
    rcases (hR.1.2 a (by rw [ht]; exact hxx.2)).2.2.2 with q | q
    · exact absurd (by rw [ht] at q; exact q) hro
    · exact q
  obtain ⟨hin, hix⟩ := i32_idx (okt (okd hst)) hi.1 hi.2
  have E1 : Ext h (setA h a i 0) := Ext.setA
  show W p l e R s m args below meth c H locs cells slots _ (F0 m pc ls (.null :: .int (Int32.ofInt i) :: rv a :: st.map cv))
  rw [rv_pos ha]
  refine va_WaastN (C := xComp t) hx2 hb hcell ((hK.2.1 _ hx).1 _ _) (fun q => by cases q) (by rw [arrV_size]; exact hin) rfl rfl hd (fun H' e1 e2 e3 => ?_)
  rw [hix] at e1
  refine kk _ rfl E1 H' _ ls cells slots ho (okd (okd (okd hst))) (hE.tr E1) (hR.stored ht hxx.1 hxx.2 hro hi (by rw [hek]; rfl) (by rw [hek]; exact Int.le_refl 0) e1 e2 e3) (fun q hq => ?_) hl
  rcases List.mem_append.mp hq with z | z
  · exact hL q z
  · rw [List.mem_singleton.mp z]
    show G.1.size ≤ (a - 1).toNat
    omega
theorem kok0 (k : Nat) : kok k 0 := by
  match k with
  | 0 => exact i32_0
  | 1 => exact Int.le_refl 0
  | k + 2 => exact ⟨by decide, by decide⟩
theorem kv_def (ty : FieldType) (h1 : ty ≠ .float) (h2 : ty ≠ .double) : kv (kt ty) 0 = defaultValue ty := by
  cases ty <;> first | rfl | exact absurd rfl h1 | exact absurd rfl h2
def flD (ty : FieldType) : Bool := match ty with
  | .float => true
  | .double => true
  | _ => false
theorem vwTy_nf : ∀ i, i < 26 → ∀ k, k < 40 → flD (vwTy i k) = false := by decide +kernel
theorem x_new (HE : XE G X cc nL own fr lc h0) {idx : Nat} {t : Int} {C : String} {T : u_T} {N : Nat} (hd : decode cc pc = .ok (.new idx, 3)) (hC : XC t C T N) (hn40 : N ≤ 40) (hro : ¬ roT t)
    (hcl : Cond.classLink own idx C ∈ lw_all) (hins : Cond.instantiable C N ∈ lw_all) (hini : Cond.initialized C ∈ lw_all) (hcap : capOK h N)
    (kk : ∀ h1 : Hp, h1 = alloc h t 0 N → Ext h h1 → WFa h → Wx G X h0 Q h1 (pc + 3) lo (rV (hN h) :: st)) : Wx G X h0 Q h pc lo st := by
  obtain ⟨p, l, e, R, s, m, args, below, meth, c⟩ := X
  obtain ⟨hx2, hb, hml, hown, hts, hlk, hK, hR0, hc1, hc2, -⟩ := HE
  intro H locs ls cells slots ho hst hE hR hL hl
  have hpos := hR.pos
  have hwf := hR.wfa
  obtain ⟨h9, hc, hin, hty, hnm⟩ := hC
  have hKn := hK.1 _ _ hc
  have E1 : Ext h (alloc h t 0 N) := Ext.alloc hwf hpos (by omega)
  refine W.tight hR0 hR ?_
  have b0 := hR0.2.1
  have b1 := hR.2.1
  have e1 := hE.1
  have e2 := hE.2.1
  have e3 := hE.con 0
  have f1 := hR.2.2.2.1
  have g6 := hR.2.2.2.2.2.2.1
  obtain ⟨cap1, cap2⟩ := hcap
  refine W.newc hx2 hb hown (hts _ hcl) (hts _ hins) (hts _ hini) rfl hd (by rw [hc1]; omega) (by rw [hc2]; omega) (fun cC kC q1 q2 q3 q4 => ?_)
  cases hKn.2.1.symm.trans q1
  have hadr : rv (hN h) = .ref H.size := by rw [rv_pos hpos, b1, show ((H.size : Int) + 1 - 1).toNat = H.size by omega]
  have hne0 : t ≠ 0 := by omega
  have hi26 : tcls t < 26 := (List.getElem?_eq_some_iff.mp hc).1
  have hc' : CellOK G (alloc h t 0 N) (hN h) (H.push (blank (G.2.1 (tcls t)) kC)) := by
    have et : hT (alloc h t 0 N) (hN h) = t := if_pos rfl
    refine ⟨fun q => by rw [et] at q; omega, fun _ => ?_⟩
    rw [et]
    refine ⟨_, hc, ?_⟩
    have hcell : (H.push (blank (G.2.1 (tcls t)) kC))[(hN h - 1).toNat]? = some (blank (G.2.1 (tcls t)) kC) := by
      rw [b1, show ((H.size : Int) + 1 - 1).toNat = H.size by omega, Array.getElem?_push_size]
    refine t_OB.to (u_born (fun j => vwTy (tcls t) j) (fun w hw => hts w (hin w hw)) (fun w hw => hw) hKn q2 hcell hty) (fun k hk => ?_)
    show defaultValue (vwTy (tcls t) k) = kv _ (if hN h = hN h then 0 else hF h (hN h) k)
    rw [if_pos rfl]
    have hf := vwTy_nf _ hi26 k (Nat.lt_of_lt_of_le hk hn40)
    exact (kv_def _ (fun q => by rw [q] at hf; cases hf) (fun q => by rw [q] at hf; cases hf)).symm
  have hR1 : Rel G (H.push (blank (G.2.1 (tcls t)) kC)) (alloc h t 0 N) :=
    hR.push rfl rfl ⟨cap1, cap2⟩ (by simp [blank, q4]) ⟨by decide, by decide⟩ hro hc' (fun k => kok0 _) (kok0 _)
  have k2 := kk _ rfl E1 hwf _ locs ls ((hN h - hN h0).toNat + 1) ((hS h - hS h0).toNat + N) ho (ok1 (v := rV (hN h)) (show 0 ≤ hN h by omega) hst) (hE.tr E1) hR1 hL hl
  have k3 : W p l e R s m args below meth c (H.push (blank (G.2.1 (tcls t)) kC)) locs ((hN h - hN h0).toNat + 1) ((hS h - hS h0).toNat + N) (MQ below (XQc G h0 Q) args s R.cells R.slots (fun q => G.1.size ≤ q)) (F0 m (pc + 3) ls (rv (hN h) :: st.map cv)) := k2
  rw [hadr] at k3
  exact k3
theorem x_newarr (HE : XE G X cc nL own fr lc h0) {t n : Int} {ty : FieldType} (atype : ArrayType) (hd : decode cc pc = .ok (.newarray atype, 2)) (hty : newarray.typeOf atype = ty) (hx : (t, ty) ∈ xAr) (hro : ¬ roT t) (hdf : kv (ekind t) 0 = defaultValue ty) (hcl : ∀ (cA : ClassId) (s : State), s.vm.findClass ("[" ++ ty.toString) = some cA → ∀ d : ClassId, va_RA s d ty → d = cA)
    (harr : Cond.arrayClass ty ∈ lw_all) (hn : 0 ≤ n ∧ n ≤ 67108864) (hby : componentBytes ty ≤ 8) (hcap : capOK h n)
    (kk : ∀ h1 : Hp, h1 = alloc h t n n → Ext h h1 → WFa h → Wx G X h0 Q h1 (pc + 2) lo (rV (hN h) :: st)) : Wx G X h0 Q h pc lo (iV n :: st) := by
  subst hty
  obtain ⟨p, l, e, R, s, m, args, below, meth, c⟩ := X
  obtain ⟨hx2, hb, hml, hown, hts, hlk, hK, hR0, hc1, hc2, -⟩ := HE
  intro H locs ls cells slots ho hst hE hR hL hl
  have hpos := hR.pos
  have hwf := hR.wfa
  have hxx := xAr_t hx
  have E1 : Ext h (alloc h t n n) := Ext.alloc hwf hpos hn.1
  refine W.tight hR0 hR ?_
  have b0 := hR0.2.1
  have b1 := hR.2.1
  have e1 := hE.1
  have e2 := hE.2.1
  have e3 := hE.con 0
  obtain ⟨cap1, cap2⟩ := hcap
  have h32 : i32 n := okt hst
  have hnn : (Int32.ofInt n).toNatClampNeg = n.toNat := by show (Int32.ofInt n).toInt.toNat = _; rw [i32_toInt h32]
  refine W.newa (n := Int32.ofInt n) hx2 hb (hts _ harr) rfl hd rfl (fun q => by have := (i32_lt h32 i32_0).mp q; omega) (by
      rw [hnn]
      exact Nat.le_trans (Nat.mul_le_mul (show n.toNat ≤ 67108864 by omega) hby) (by decide)) (by rw [hc1]; omega) (by rw [hc2, hnn]; omega) (fun cA kA comp q1 q2 q3 => ?_)
  have hdA : G.2.2.2.1 t = cA := hcl cA s q1 _ (hK.2.1 _ hx).2
  have hadr : rv (hN h) = .ref H.size := by rw [rv_pos hpos, b1, show ((H.size : Int) + 1 - 1).toNat = H.size by omega]
  rw [hnn, arrV_new, ← hdA]
  have hc' : CellOK G (alloc h t n n) (hN h) (H.push (arrV (G.2.2.2.1 t) n.toNat (fun _ => defaultValue (newarray.typeOf atype)))) := by
    have et : hT (alloc h t n n) (hN h) = t := if_pos rfl
    refine ⟨fun _ => ?_, fun q => by rw [et] at q; omega⟩
    rw [et]
    show _ = some (arrV (G.2.2.2.1 t) (if hN h = hN h then n else _).toNat (fun j : Nat => kv (ekind t) (if hN h = hN h then 0 else hA h (hN h) j)))
    simp only [if_true]
    rw [b1, show ((H.size : Int) + 1 - 1).toNat = H.size by omega, Array.getElem?_push_size, hdf]
  have hR1 : Rel G (H.push (arrV (G.2.2.2.1 t) n.toNat (fun _ => defaultValue (newarray.typeOf atype)))) (alloc h t n n) :=
    hR.push rfl rfl ⟨cap1, cap2⟩ (by rw [arrV_size]; omega) ⟨hn.1, by omega⟩ hro hc' (fun k => kok0 _) (kok0 _)
  have k2 := kk _ rfl E1 hwf _ locs ls ((hN h - hN h0).toNat + 1) ((hS h - hS h0).toNat + n.toNat) ho (ok3 (v := rV (hN h)) (show 0 ≤ hN h by omega) hst) (hE.tr E1) hR1 hL hl
  have k3 : W p l e R s m args below meth c (H.push (arrV (G.2.2.2.1 t) n.toNat (fun _ => defaultValue (newarray.typeOf atype)))) locs ((hN h - hN h0).toNat + 1) ((hS h - hS h0).toNat + n.toNat) (MQ below (XQc G h0 Q) args s R.cells R.slots (fun q => G.1.size ≤ q)) (F0 m (pc + 2) ls (rv (hN h) :: st.map cv)) := k2
  rw [hadr] at k3
  exact k3
theorem x_newI (HE : XE G X cc nL own fr lc h0) {n : Int} (hd : decode cc pc = .ok (.newarray .int, 2)) (harr : Cond.arrayClass .int ∈ lw_all) (hn : 0 ≤ n ∧ n ≤ 67108864) (hcap : capOK h n)
    (kk : ∀ h1 : Hp, h1 = alloc h 1 n n → Ext h h1 → WFa h → Wx G X h0 Q h1 (pc + 2) lo (rV (hN h) :: st)) : Wx G X h0 Q h pc lo (iV n :: st) :=
  x_newarr HE (t := 1) (ty := .int) .int hd rfl (by simp [xAr]) (by unfold roT; omega) rfl (fun cA s q d r => Option.some.inj (r.symm.trans q)) harr hn (by decide) hcap kk
theorem x_newB (HE : XE G X cc nL own fr lc h0) {n : Int} (hd : decode cc pc = .ok (.newarray .byte, 2)) (harr : Cond.arrayClass .byte ∈ lw_all) (hn : 0 ≤ n ∧ n ≤ 67108864) (hcap : capOK h n)
    (kk : ∀ h1 : Hp, h1 = alloc h 2 n n → Ext h h1 → WFa h → Wx G X h0 Q h1 (pc + 2) lo (rV (hN h) :: st)) : Wx G X h0 Q h pc lo (iV n :: st) :=
  x_newarr HE (t := 2) (ty := .byte) .byte hd rfl (by simp [xAr]) (by unfold roT; omega) rfl (fun cA s q d r => Option.some.inj (r.symm.trans q)) harr hn (by decide) hcap kk
theorem x_newZ (HE : XE G X cc nL own fr lc h0) {n : Int} (hd : decode cc pc = .ok (.newarray .boolean, 2)) (harr : Cond.arrayClass .boolean ∈ lw_all) (hn : 0 ≤ n ∧ n ≤ 67108864) (hcap : capOK h n)
    (kk : ∀ h1 : Hp, h1 = alloc h 3 n n → Ext h h1 → WFa h → Wx G X h0 Q h1 (pc + 2) lo (rV (hN h) :: st)) : Wx G X h0 Q h pc lo (iV n :: st) :=
  x_newarr HE (t := 3) (ty := .boolean) .boolean hd rfl (by simp [xAr]) (by unfold roT; omega) rfl (fun cA s q d r => Option.some.inj (r.symm.trans q)) harr hn (by decide) hcap kk
theorem x_newJ (HE : XE G X cc nL own fr lc h0) {n : Int} (hd : decode cc pc = .ok (.newarray .long, 2)) (harr : Cond.arrayClass .long ∈ lw_all) (hn : 0 ≤ n ∧ n ≤ 67108864) (hcap : capOK h n)
    (kk : ∀ h1 : Hp, h1 = alloc h 4 n n → Ext h h1 → WFa h → Wx G X h0 Q h1 (pc + 2) lo (rV (hN h) :: st)) : Wx G X h0 Q h pc lo (iV n :: st) :=
  x_newarr HE (t := 4) (ty := .long) .long hd rfl (by simp [xAr]) (by unfold roT; omega) rfl (fun cA s q d r => Option.some.inj (r.symm.trans q)) harr hn (by decide) hcap kk
theorem x_anew (HE : XE G X cc nL own fr lc h0) {idx : Nat} {t n : Int} (hd : decode cc pc = .ok (.anewarray idx, 3)) (hq : t = 5 ∨ t = 6) (hcl : Cond.classLink own idx (xComp t) ∈ lw_all) (hn : 0 ≤ n ∧ n ≤ 67108864) (hcap : capOK h n)
    (kk : ∀ h1 : Hp, h1 = alloc h t n n → Ext h h1 → WFa h → Wx G X h0 Q h1 (pc + 3) lo (rV (hN h) :: st)) : Wx G X h0 Q h pc lo (iV n :: st) := by
  have hx : (t, FieldType.object (xComp t)) ∈ xAr := by rcases hq with rfl | rfl <;> simp [xAr, xComp]
  have hro : ¬ roT t := by unfold roT; omega
  have hek : ekind t = 1 := by rcases hq with rfl | rfl <;> rfl
  obtain ⟨p, l, e, R, s, m, args, below, meth, c⟩ := X
  obtain ⟨hx2, hb, hml, hown, hts, hlk, hK, hR0, hc1, hc2, -⟩ := HE
  intro H locs ls cells slots ho hst hE hR hL hl
  have hpos := hR.pos
  have hwf := hR.wfa
  have hxx := xAr_t hx
  have E1 : Ext h (alloc h t n n) := Ext.alloc hwf hpos hn.1
  refine W.tight hR0 hR ?_
  have b0 := hR0.2.1
  have b1 := hR.2.1
  have e1 := hE.1
  have e2 := hE.2.1
  have e3 := hE.con 0
  obtain ⟨cap1, cap2⟩ := hcap
  have h32 : i32 n := okt hst
  have hnn : (Int32.ofInt n).toNatClampNeg = n.toNat := by show (Int32.ofInt n).toInt.toNat = _; rw [i32_toInt h32]
  have hAO : va_AO (xComp t) s := by rcases hq with rfl | rfl; exact hK.2.2.2.1; exact hK.2.2.2.2.1
  refine W.anew (n := Int32.ofInt n) hx2 hb hown (hts _ hcl) (va_AO.use hAO) rfl hd rfl (fun q => by have := (i32_lt h32 i32_0).mp q; omega) (by rw [hnn]; omega) (by rw [hc1]; omega) (by rw [hc2, hnn]; omega) (fun cA kA comp q1 q2 q3 q4 => ?_)
  have hdA : G.2.2.2.1 t = cA := by
    obtain ⟨kA', comp', r1, r2, r3, r4⟩ := (hK.2.1 _ hx).2
    exact Option.some.inj (r4.symm.trans q1)
  have hadr : rv (hN h) = .ref H.size := by rw [rv_pos hpos, b1, show ((H.size : Int) + 1 - 1).toNat = H.size by omega]
  rw [hnn, arrV_new, ← hdA]
  have hc' : CellOK G (alloc h t n n) (hN h) (H.push (arrV (G.2.2.2.1 t) n.toNat (fun _ => .null))) := by
    have et : hT (alloc h t n n) (hN h) = t := if_pos rfl
    refine ⟨fun _ => ?_, fun q => by rw [et] at q; omega⟩
    rw [et]
    show _ = some (arrV (G.2.2.2.1 t) (if hN h = hN h then n else _).toNat (fun j : Nat => kv (ekind t) (if hN h = hN h then 0 else hA h (hN h) j)))
    simp only [if_true]
    rw [b1, show ((H.size : Int) + 1 - 1).toNat = H.size by omega, Array.getElem?_push_size, hek]
    rfl
  have hR1 : Rel G (H.push (arrV (G.2.2.2.1 t) n.toNat (fun _ => .null))) (alloc h t n n) :=
    hR.push rfl rfl ⟨cap1, cap2⟩ (by rw [arrV_size]; omega) ⟨hn.1, by omega⟩ hro hc' (fun k => kok0 _) (kok0 _)
  have k2 := kk _ rfl E1 hwf _ locs ls ((hN h - hN h0).toNat + 1) ((hS h - hS h0).toNat + n.toNat) ho (ok3 (v := rV (hN h)) (show 0 ≤ hN h by omega) hst) (hE.tr E1) hR1 hL hl
  have k3 : W p l e R s m args below meth c (H.push (arrV (G.2.2.2.1 t) n.toNat (fun _ => .null))) locs ((hN h - hN h0).toNat + 1) ((hS h - hS h0).toNat + n.toNat) (MQ below (XQc G h0 Q) args s R.cells R.slots (fun q => G.1.size ≤ q)) (F0 m (pc + 3) ls (rv (hN h) :: st.map cv)) := k2
  rw [hadr] at k3
  exact k3
/-- a cast to the object's own class -/
theorem x_castS (HE : XE G X cc nL own fr lc h0) {idx : Nat} {t a : Int} {C : String} {T : u_T} {N : Nat} (hd : decode cc pc = .ok (.checkcast idx, 3)) (hC : XC t C T N) (hcl : Cond.classLink own idx C ∈ lw_all) (ht : hT h a = t) (kk : Wx G X h0 Q h (pc + 3) lo (rV a :: st)) : Wx G X h0 Q h pc lo (rV a :: st) := by
  obtain ⟨p, l, e, R, s, m, args, below, meth, c⟩ := X
  obtain ⟨hx2, hb, hml, hown, hts, hlk, hK, hR0, hc1, hc2, -⟩ := HE
  intro H locs ls cells slots ho hst hE hR hL hl
  have k1 := kk H locs ls cells slots ho hst hE hR hL hl
  obtain ⟨ha, hr⟩ := hR.recv hK ht hC.1 hC.2.1
  have k2 : W p l e R s m args below meth c H locs cells slots (MQ below (XQc G h0 Q) args s R.cells R.slots (fun q => G.1.size ≤ q)) (F0 m (pc + 3) ls (rv a :: st.map cv)) := k1
  show W p l e R s m args below meth c H locs cells slots _ (F0 m pc ls (rv a :: st.map cv))
  rw [rv_pos ha] at k2 ⊢
  exact va_castS hx2 hb hown (hts _ hcl) (hK.1 _ _ hC.2.1).2 hr hd k2
theorem x_ldcS (HE : XE G X cc nL own fr lc h0) {idx k : Nat} {tx : String} (hd : decode cc pc = .ok (.ldc idx, 2)) (hx : (own, idx, tx, k) ∈ xStr) (kk : 1 ≤ hF h 0 (k + 1) → Wx G X h0 Q h (pc + 2) lo (rV (hF h 0 (k + 1)) :: st)) : Wx G X h0 Q h pc lo st := by
  obtain ⟨p, l, e, R, s, m, args, below, meth, c⟩ := X
  obtain ⟨hx2, hb, hml, hown, hts, hlk, hK, hR0, hc1, hc2, -⟩ := HE
  intro H locs ls cells slots ho hst hE hR hL hl
  obtain ⟨h6, hp⟩ := hK.2.2.2.2.2.1 _ hx
  have ek := hR.2.2.2.2.2.2.2.1 k
  have hp2 : 1 ≤ hF h 0 (k + 1) := by rw [ek]; exact hp
  have k1 := kk hp2 H locs ls cells slots ho (ok1 (v := rV _) (show (0 : Int) ≤ _ by omega) hst) hE hR hL hl
  have k2 : W p l e R s m args below meth c H locs cells slots (MQ below (XQc G h0 Q) args s R.cells R.slots (fun q => G.1.size ≤ q)) (F0 m (pc + 2) ls (rv (hF h 0 (k + 1)) :: st.map cv)) := k1
  rw [rv_pos hp2, ek] at k2
  exact va_ldcS hx2 hb hown h6 hd k2
theorem x_getE (HE : XE G X cc nL own fr lc h0) {idx : Nat} (hd : decode cc pc = .ok (.getstatic idx, 3)) (hlink : Cond.fieldLink own idx "java/util/ArrayList" "DEFAULTCAPACITY_EMPTY_ELEMENTDATA" "[Ljava/lang/Object;" ∈ lw_all) (hp : 0 ≤ hF h 0 32) (kk : Wx G X h0 Q h (pc + 3) lo (rV (hF h 0 32) :: st)) : Wx G X h0 Q h pc lo st := by
  obtain ⟨p, l, e, R, s, m, args, below, meth, c⟩ := X
  obtain ⟨hx2, hb, hml, hown, hts, hlk, hK, hR0, hc1, hc2, -⟩ := HE
  intro H locs ls cells slots ho hst hE hR hL hl
  obtain ⟨cf, kf, fi, f, a, cell, q1, q2, q3, q4, q5, q6, q7, q8⟩ := hK.2.2.2.2.2.2.1
  have k1 := kk H locs ls cells slots ho (ok1 (v := rV _) hp hst) hE hR hL hl
  have k2 : W p l e R s m args below meth c H locs cells slots (MQ below (XQc G h0 Q) args s R.cells R.slots (fun q => G.1.size ≤ q)) (F0 m (pc + 3) ls (rv (hF h 0 32) :: st.map cv)) := k1
  rw [hR.2.2.2.2.2.2.2.1 31] at k2
  exact W.gets hx2 hb hown (hts _ hlink) q1 q2 q3 q4 (by rw [hR.2.2.2.2.2.2.2.2.2 a (Array.getElem?_eq_some_iff.mp q5).1]; exact q5) (fun z => by rw [z] at q6; cases q6) q7 rfl hd k2
theorem x_getSF (HE : XE G X cc nL own fr lc h0) {idx : Nat} (hd : decode cc pc = .ok (.getstatic idx, 3)) (hlink : Cond.fieldLink own idx "jdk/internal/util/Preconditions" "SIOOBE_FORMATTER" "Ljava/util/function/BiFunction;" ∈ lw_all) (hp : 0 ≤ hF h 0 34) (kk : Wx G X h0 Q h (pc + 3) lo (rV (hF h 0 34) :: st)) : Wx G X h0 Q h pc lo st := by
  obtain ⟨p, l, e, R, s, m, args, below, meth, c⟩ := X
  obtain ⟨hx2, hb, hml, hown, hts, hlk, hK, hR0, hc1, hc2, -⟩ := HE
  intro H locs ls cells slots ho hst hE hR hL hl
  obtain ⟨cf, kf, fi, f, a, cell, q1, q2, q3, q4, q5, q6, q7, q8⟩ := hK.2.2.2.2.2.2.2.2.2.2
  have k1 := kk H locs ls cells slots ho (ok1 (v := rV _) hp hst) hE hR hL hl
  have k2 : W p l e R s m args below meth c H locs cells slots (MQ below (XQc G h0 Q) args s R.cells R.slots (fun q => G.1.size ≤ q)) (F0 m (pc + 3) ls (rv (hF h 0 34) :: st.map cv)) := k1
  rw [hR.2.2.2.2.2.2.2.1 33] at k2
  exact W.gets hx2 hb hown (hts _ hlink) q1 q2 q3 q4 (by rw [hR.2.2.2.2.2.2.2.2.2 a (Array.getElem?_eq_some_iff.mp q5).1]; exact q5) (fun z => by rw [z] at q6; cases q6) q7 rfl hd k2
theorem x_getCS (HE : XE G X cc nL own fr lc h0) {idx : Nat} (hd : decode cc pc = .ok (.getstatic idx, 3)) (hlink : Cond.fieldLink own idx "java/lang/String" "COMPACT_STRINGS" "Z" ∈ lw_all) (kk : Wx G X h0 Q h (pc + 3) lo (iV 1 :: st)) : Wx G X h0 Q h pc lo st := by
  obtain ⟨p, l, e, R, s, m, args, below, meth, c⟩ := X
  obtain ⟨hx2, hb, hml, hown, hts, hlk, hK, hR0, hc1, hc2, -⟩ := HE
  intro H locs ls cells slots ho hst hE hR hL hl
  obtain ⟨cf, kf, fi, f, a, cell, q1, q2, q3, q4, q5, q6, q7, q8⟩ := hK.2.2.2.2.2.2.2.1
  have k1 := kk H locs ls cells slots ho (ok1 (v := iV 1) (show i32 1 from ⟨by decide, by decide⟩) hst) hE hR hL hl
  exact W.gets hx2 hb hown (hts _ hlink) q1 q2 q3 q4 (by rw [hR.2.2.2.2.2.2.2.2.2 a (Array.getElem?_eq_some_iff.mp q5).1]; exact q5) (fun z => by rw [z] at q6; cases q6) q7 rfl hd k1
/-- the ends -/
theorem x_end {p : Program} {l : Launch} {e : Env} {R : Room} {s : State} {m : MethodId} {args : Array Value} {below : List Frame} {meth : Method} {c : Code} {H : Heap} {locs : List Loc} {cells slots : Nat} {Q' : State → Prop} {g : JFrame} (hR0 : Rel G s.heap h0) (hR : Rel G H h) (hE : Ext h0 h) (hc1 : R.cells = (hF h0 0 0 + 1 + 1200128 - hN h0).toNat) (hc2 : R.slots = (5501098 - hS h0).toNat) (kk : W p l e R s m args below meth c H locs R.cells R.slots Q' g) : W p l e R s m args below meth c H locs cells slots Q' g := by
  refine W.tight hR0 hR (W.widen ?_ ?_ kk)
  · have a1 := hR.2.2.2.2.1
    have a2 := hR.2.2.2.2.2.2.1
    have a3 := hE.con 0
    omega
  · have a1 := hR.2.2.2.2.2.1
    omega
def QI (K : Int → Hp → Prop) : Option AV → Hp → Prop := fun r h => ∃ x : Int, r = some (iV x) ∧ K x h
def QR (K : Int → Hp → Prop) : Option AV → Hp → Prop := fun r h => ∃ x : Int, r = some (rV x) ∧ K x h
def QV (K : Hp → Prop) : Option AV → Hp → Prop := fun r h => r = none ∧ K h
theorem x_iret {K : Int → Hp → Prop} {x : Int} (HE : XE G X cc nL own fr lc h0) (hr : XR X (some .int)) (hd : decode cc pc = .ok (.ireturn, 1)) (hk : K x h) : Wx G X h0 (QI K) h pc lo [iV x] := by
  obtain ⟨p, l, e, R, s, m, args, below, meth, c⟩ := X
  obtain ⟨hx2, hb, hml, hown, hts, hlk, hK, hR0, hc1, hc2, -⟩ := HE
  intro H locs ls cells slots ho hst hE hR hL hl
  exact x_end hR0 hR hE hc1 hc2 (W.iret (v := Int32.ofInt x) hx2 hb hr (fun t ht hW => ⟨some (iV x), h, rfl, fun v hv => by cases hv; exact okt hst, hE, by rw [ht]; exact hR, x, rfl, hk⟩) hL hd)
theorem x_zret {K : Int → Hp → Prop} {x : Int} (HE : XE G X cc nL own fr lc h0) (hr : XR X (some .boolean)) (hd : decode cc pc = .ok (.ireturn, 1)) (hz : x = 0 ∨ x = 1) (hk : K x h) : Wx G X h0 (QI K) h pc lo [iV x] := by
  obtain ⟨p, l, e, R, s, m, args, below, meth, c⟩ := X
  obtain ⟨hx2, hb, hml, hown, hts, hlk, hK, hR0, hc1, hc2, -⟩ := HE
  intro H locs ls cells slots ho hst hE hR hL hl
  exact x_end hR0 hR hE hc1 hc2 (W.zret (v := Int32.ofInt x) hx2 hb hr (nf_bool hz).1 (fun t ht hW => ⟨some (iV x), h, rfl, fun v hv => by cases hv; exact okt hst, hE, by rw [ht]; exact hR, x, rfl, hk⟩) hL hd)
theorem x_bret {K : Int → Hp → Prop} {x : Int} (HE : XE G X cc nL own fr lc h0) (hr : XR X (some .byte)) (hd : decode cc pc = .ok (.ireturn, 1)) (hz : -128 ≤ x ∧ x ≤ 127) (hk : K x h) : Wx G X h0 (QI K) h pc lo [iV x] := by
  obtain ⟨p, l, e, R, s, m, args, below, meth, c⟩ := X
  obtain ⟨hx2, hb, hml, hown, hts, hlk, hK, hR0, hc1, hc2, -⟩ := HE
  intro H locs ls cells slots ho hst hE hR hL hl
  exact x_end hR0 hR hE hc1 hc2 (W.zret (v := Int32.ofInt x) hx2 hb hr (nf_byte hz).1 (fun t ht hW => ⟨some (iV x), h, rfl, fun v hv => by cases hv; exact okt hst, hE, by rw [ht]; exact hR, x, rfl, hk⟩) hL hd)
theorem nf_char {x : Int} (h : 0 ≤ x ∧ x ≤ 65535) : narrow .char (.int (Int32.ofInt x)) = .int (Int32.ofInt x) := by
  have e : Int32.ofInt x = nI x.toNat := by
    show _ = Int32.ofNat x.toNat
    rw [← Int32.ofInt_eq_ofNat, Int.toNat_of_nonneg h.1]
  rw [e]
  exact (pk_charN (by omega)).1
theorem x_cret {K : Int → Hp → Prop} {x : Int} (HE : XE G X cc nL own fr lc h0) (hr : XR X (some .char)) (hd : decode cc pc = .ok (.ireturn, 1)) (hz : 0 ≤ x ∧ x ≤ 65535) (hk : K x h) : Wx G X h0 (QI K) h pc lo [iV x] := by
  obtain ⟨p, l, e, R, s, m, args, below, meth, c⟩ := X
  obtain ⟨hx2, hb, hml, hown, hts, hlk, hK, hR0, hc1, hc2, -⟩ := HE
  intro H locs ls cells slots ho hst hE hR hL hl
  exact x_end hR0 hR hE hc1 hc2 (W.zret (v := Int32.ofInt x) hx2 hb hr (nf_char hz) (fun t ht hW => ⟨some (iV x), h, rfl, fun v hv => by cases hv; exact okt hst, hE, by rw [ht]; exact hR, x, rfl, hk⟩) hL hd)
theorem x_vret {K : Hp → Prop} (HE : XE G X cc nL own fr lc h0) (hr : XR X none) (hd : decode cc pc = .ok (.return_, 1)) (hk : K h) : Wx G X h0 (QV K) h pc lo [] := by
  obtain ⟨p, l, e, R, s, m, args, below, meth, c⟩ := X
  obtain ⟨hx2, hb, hml, hown, hts, hlk, hK, hR0, hc1, hc2, -⟩ := HE
  intro H locs ls cells slots ho hst hE hR hL hl
  exact x_end hR0 hR hE hc1 hc2 (W.vret hx2 hb hr (fun t ht hW => ⟨none, h, rfl, (fun v hv => by cases hv), hE, by rw [ht]; exact hR, rfl, hk⟩) hL hd)
theorem x_aret {K : Int → Hp → Prop} {x : Int} {rt : FieldType} (HE : XE G X cc nL own fr lc h0) (hr : XR X (some rt)) (hrt : (∃ n, rt = .object n) ∨ ∃ t, rt = .array t) (hd : decode cc pc = .ok (.areturn, 1)) (hk : K x h) : Wx G X h0 (QR K) h pc lo [rV x] := by
  obtain ⟨p, l, e, R, s, m, args, below, meth, c⟩ := X
  obtain ⟨hx2, hb, hml, hown, hts, hlk, hK, hR0, hc1, hc2, -⟩ := HE
  intro H locs ls cells slots ho hst hE hR hL hl
  exact x_end hR0 hR hE hc1 hc2 (W.aret (v := rv x) hx2 hb hr hrt (by unfold rv; split; exact Or.inl rfl; exact Or.inr ⟨_, rfl⟩) (fun t ht hW => ⟨some (rV x), h, rfl, fun v hv => by cases hv; exact okt hst, hE, by rw [ht]; exact hR, x, rfl, hk⟩) hL hd)
end ROWS
