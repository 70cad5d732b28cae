/-! rows of Wx that read or write the heap -/
def XC (t : Int) (C : String) (T : u_T) (N : Nat) : Prop := 9 ≤ t ∧ vwCl[tcls t]? = some (C, T, N) ∧ (∀ w ∈ u_ws C T N, w ∈ lw_all) ∧ (∀ k, k < N → parseFieldDescriptor (T k).2.2.1 = some (vwTy (tcls t) k)) ∧ (∀ a, a < N → ∀ b, b < N → a ≠ b → (T a).2.1 ≠ (T b).2.1)
/-- the object of a tag at its address -/
theorem Rel.obj {G : GT} {h : Hp} {H : Heap} {a t : Int} {C : String} {T : u_T} {N : Nat} (hR : Rel G H h) (ht : hT h a = t) (hC : XC t C T N) : 1 ≤ a ∧ t_OB (a - 1).toNat (G.2.1 (tcls t)) N (G.2.2.1 (tcls t)) H (fun k => kv (kt (vwTy (tcls t) k)) (hF h a k)) := by
  subst ht
  obtain ⟨h9, hc, -⟩ := hC
  have h0 : hT h a ≠ 0 := by omega
  obtain ⟨r, h1, h2⟩ := (hR.2.2.2.2.2.2.2.2.1 a h0).2 h9
  cases h1.symm.trans hc
  exact ⟨(hR.1.1.2 a h0).1, h2⟩
theorem Rel.arr {G : GT} {h : Hp} {H : Heap} {a t : Int} (hR : Rel G H h) (ht : hT h a = t) (h9 : t < 9) (h0 : t ≠ 0) : 1 ≤ a ∧ H[(a - 1).toNat]? = some (arrV (G.2.2.2.1 t) (hL h a).toNat (fun j => kv (ekind t) (hA h a j))) := by
  subst ht
  exact ⟨(hR.1.1.2 a h0).1, (hR.2.2.2.2.2.2.2.2.1 a h0).1 h9⟩
theorem rv_pos {a : Int} (h : 1 ≤ a) : rv a = .ref (a - 1).toNat := if_neg (by omega)
theorem kv0 (x : Int) : kv 0 x = .int (Int32.ofInt x) := rfl
theorem kv1 (x : Int) : kv 1 x = rv x := rfl
section ROWS
variable {G : GT} {X : ET} {cc : ByteArray} {nL fr lc : Nat} {own : String} {h0 h : Hp} {Q : Option AV → Hp → Prop} {pc : Nat} {lo : List (Option AV)} {st : List AV}
def kV (k : Nat) (v : Int) : AV := match k with
  | 0 => iV v
  | 1 => rV v
  | _ => lV v
theorem cv_kV (k : Nat) (v : Int) : cv (kV k v) = kv k v := by
  match k with
  | 0 => rfl
  | 1 => rfl
  | k + 2 => rfl
theorem okv_kV {k : Nat} {v : Int} (hk : kok k v) : okv (kV k v) := by
  match k, hk with
  | 0, hk => exact hk
  | 1, hk => exact hk
  | k + 2, hk => exact hk
theorem x_getfK (HE : XE G X cc nL own fr lc h0) {idx : Nat} {t a v : Int} {C ref : String} {T : u_T} {N : Nat} (hd : decode cc pc = .ok (.getfield idx, 3)) (hC : XC t C T N) (k : Nat) (hk : k < N)
    (hlink : Cond.fieldLink own idx ref (T k).2.1 (T k).2.2.1 ∈ lw_all) (hsame : ref = (T k).1 ∨ Cond.sameField ref (T k).1 (T k).2.1 (T k).2.2.1 ∈ lw_all) (ht : hT h a = t) (hv : hF h a k = v)
    (kk : Wx G X h0 Q h (pc + 3) lo (kV (kt (vwTy (tcls t) k)) v :: st)) : Wx G X h0 Q h pc lo (rV a :: st) := by
  obtain ⟨p, l, e, R, s, m, args, below, meth, c⟩ := X
  obtain ⟨hx, hb, hml, hown, hts, hlk, hK, -⟩ := HE
  intro H locs ls cells slots ho hst hE hR hL hl
  obtain ⟨ha, cell, q1, q2, q3, q4⟩ := hR.obj ht hC
  have h00 : hT h a ≠ 0 := by rw [ht]; have := hC.1; omega
  have hkok := (hR.1.2 a h00).2.1 k
  rw [ht, hv] at hkok
  obtain ⟨-, hc, hin, -⟩ := hC
  obtain ⟨hS, hfc, kC, hkC, hkind⟩ := hK.1 _ _ hc
  obtain ⟨cf, kf, fi, f, hi, hsl⟩ := hS k hk
  have hsame2 : s.fieldFound? ref (T k).2.1 (T k).2.2.1 = some (cf, kf, fi, f) := by
    rcases hsame with q | q
    · rw [q]; exact hi
    · exact u_same (hts _ q) _ hi
  show W p l e R s m args below meth c H locs cells slots _ (F0 m pc ls (rv a :: st.map cv))
  rw [rv_pos ha]
  refine W.getf hx hb hown (hts _ hlink) hsame2 (u_facts hfc hkC (u_lays (fun w hw => hts w (hin w hw)) (fun w hw => hw) hk) hi).1 q1 (by rw [q3]; exact fun h => by cases h) (v := kv (kt (vwTy (tcls t) k)) v) ?_ rfl rfl hd ?_
  · rw [hsl, q4 k hk]
    show some (kv _ (hF h a k)) = _
    rw [hv]
  · have := kk H locs ls cells slots ho (ok3 (okv_kV hkok) hst) hE hR hL hl
    simp only [List.map_cons, cv_kV] at this
    exact this
theorem nf_int (x : Int) : narrow .int (cv (iV x)) = cv (iV x) ∧ fits .int (cv (iV x)) = true := ⟨rfl, rfl⟩
theorem nf_bool {x : Int} (h : x = 0 ∨ x = 1) : narrow .boolean (cv (iV x)) = cv (iV x) ∧ fits .boolean (cv (iV x)) = true := by
  rcases h with rfl | rfl <;> exact ⟨rfl, rfl⟩
theorem nf_byte {x : Int} (h : -128 ≤ x ∧ x ≤ 127) : narrow .byte (cv (iV x)) = cv (iV x) ∧ fits .byte (cv (iV x)) = true := by
  have e : Int32.ofInt x = (Int8.ofInt x).toInt32 := (i8c h).symm
  have e2 : ((Int8.ofInt x).toInt32).toInt8.toInt32 = (Int8.ofInt x).toInt32 := by simp
  constructor
  · show narrow .byte (.int (Int32.ofInt x)) = .int (Int32.ofInt x)
    rw [e]
    simp [narrow, e2]
  · show fits .byte (.int (Int32.ofInt x)) = true
    rw [e]
    have := pk_fb (Int8.ofInt x).toInt32
    rw [e2] at this
    exact this
theorem nf_obj (n : String) (a : Int) : narrow (.object n) (cv (rV a)) = cv (rV a) ∧ fits (.object n) (cv (rV a)) = true := by
  show narrow (.object n) (rv a) = rv a ∧ fits (.object n) (rv a) = true
  unfold rv
  split <;> exact ⟨rfl, rfl⟩
theorem nf_arr (ty : FieldType) (a : Int) : narrow (.array ty) (cv (rV a)) = cv (rV a) ∧ fits (.array ty) (cv (rV a)) = true := by
  show narrow (.array ty) (rv a) = rv a ∧ fits (.array ty) (rv a) = true
  unfold rv
  split <;> exact ⟨rfl, rfl⟩
theorem okv_kok {k : Nat} {v : Int} (h : okv (kV k v)) : kok k v := by
  match k, h with
  | 0, h => exact h
  | 1, h => exact h
  | k + 2, h => exact h
theorem t_OB_upd {G : GT} {h : Hp} {H : Heap} {a t : Int} {N k : Nat} (v : Int) (hk : k < N) : (fun j => if j = k then kv (kt (vwTy (tcls t) k)) v else kv (kt (vwTy (tcls t) j)) (hF h a j)) = (fun j => kv (kt (vwTy (tcls t) j)) (hF (setF h a k v) a j)) := by
  funext j
  show _ = kv _ (if a = a ∧ j = k then v else hF h a j)
  by_cases e : j = k
  · subst e; simp
  · simp [e]
theorem x_putfK (HE : XE G X cc nL own fr lc h0) {idx : Nat} {t a v : Int} {C ref : String} {T : u_T} {N : Nat} (hd : decode cc pc = .ok (.putfield idx, 3)) (hC : XC t C T N) (k : Nat) (hk : k < N)
    (hlink : Cond.fieldLink own idx ref (T k).2.1 (T k).2.2.1 ∈ lw_all) (hsame : ref = (T k).1 ∨ Cond.sameField ref (T k).1 (T k).2.1 (T k).2.2.1 ∈ lw_all)
    (hfin : (T k).2.2.2 = false ∨ ((T k).2.2.2 = true ∧ XN X "<init>" ∧ (T k).1 = own)) (hnf : narrow (vwTy (tcls t) k) (cv (kV (kt (vwTy (tcls t) k)) v)) = cv (kV (kt (vwTy (tcls t) k)) v) ∧ fits (vwTy (tcls t) k) (cv (kV (kt (vwTy (tcls t) k)) v)) = true)
    (hro : ¬ roT t) (ht : hT h a = t) (hz : finF t k = false ∨ hF h a k = 0)
    (kk : ∀ h1 : Hp, h1 = setF h a k v → Ext h h1 → Wx G X h0 Q h1 (pc + 3) lo st) : Wx G X h0 Q h pc lo (kV (kt (vwTy (tcls t) k)) v :: rV a :: st) := by
  obtain ⟨p, l, e, R, s, m, args, below, meth, c⟩ := X
  obtain ⟨hx, hb, hml, hown, hts, hlk, hK, -⟩ := HE
  intro H locs ls cells slots ho hst hE hR hL hl
  obtain ⟨ha, cell, q1, q2, q3, q4⟩ := hR.obj ht hC
  have h00 : hT h a ≠ 0 := by rw [ht]; have := hC.1; omega
  have hne : a ≠ 0 := by omega
  have E1 : Ext h (setF h a k v) := Ext.setF hne (by rw [ht]; exact hz)
  have hkv : kok (kt (vwTy (tcls t) k)) v := okv_kok (okt hst)
  have h9 := hC.1
  have hcl := hC.2.1
  obtain ⟨-, hc, hin, hty, hnm⟩ := hC
  have hap := va_apart (own := own) (args := args) (D := (G.2.1, G.2.2.1)) (cl := vwCl) (tys := []) (ci := tcls t) (fun w hw => hts w (hin w hw)) (fun w hw => hw) (fun j => vwTy (tcls t) j) hty hnm ⟨hK.1, fun j q hq => by simp at hq⟩ hc
  obtain ⟨hS, hfc, kC, hkC, hkind⟩ := hK.1 _ _ hc
  obtain ⟨cf, kf, fi, f, hi, hsl⟩ := hS k hk
  have hsame2 : s.fieldFound? ref (T k).2.1 (T k).2.2.1 = some (cf, kf, fi, f) := by
    rcases hsame with q | q
    · rw [q]; exact hi
    · exact u_same (hts _ q) _ hi
  have hlay := hts _ (hin _ (u_in_lay hk))
  have hst2 := (u_facts hfc hkC (u_lays (fun w hw => hts w (hin w hw)) (fun w hw => hw) hk) hi).1
  have hlt : f.slot < cell.slots.size := by rw [hsl]; exact k2_hasslot (q4 k hk)
  show W p l e R s m args below meth c H locs cells slots _ (F0 m pc ls (cv (kV (kt (vwTy (tcls t) k)) v) :: rv a :: st.map cv))
  rw [rv_pos ha]
  have fin : ∀ H' : Heap, H'[(a - 1).toNat]? = some (cell.setSlot f.slot (cv (kV (kt (vwTy (tcls t) k)) v))) → H'.size = H.size → (∀ q, q ≠ (a - 1).toNat → H'[q]? = H[q]?) → W p l e R s m args below meth c H' (locs ++ [⟨(a - 1).toNat, f.slot⟩]) cells slots (MQ below (XQc G h0 Q) args s R.cells R.slots (fun q => G.1.size ≤ q)) (F0 m (pc + 3) ls (st.map cv)) := by
    intro H' e1 e2 e3
    have hown2 : (G.1.size : Int) < a := by
      rcases (hR.1.2 a h00).2.2.2 with q | q
      · exact absurd (by rw [ht] at q; exact q) hro
      · exact q
    refine kk (setF h a k v) rfl E1 H' _ ls cells slots ho (okd (okd hst)) (hE.tr E1) ?_ ?_ hl
    · refine hR.upd (h' := setF h a k v) h00 (by rw [ht]; exact hro) rfl rfl rfl rfl (fun b hb2 => ⟨by funext j; exact if_neg (fun z => hb2 z.1), rfl⟩) (fun j => ?_) (fun j => (hR.1.2 a h00).2.2.1 j) ?_ e2 e3 ?_
      · show kok _ (if a = a ∧ j = k then v else hF h a j)
        by_cases z : j = k
        · subst z; rw [if_pos ⟨rfl, rfl⟩, ht]; exact hkv
        · rw [if_neg (fun y => z y.2)]; exact (hR.1.2 a h00).2.1 j
      · refine ⟨fun q => ?_, fun _ => ?_⟩
        · have : hT h a < 9 := q
          omega
        · refine ⟨_, (by show vwCl[tcls (hT h a)]? = _; rw [ht]; exact hcl), ?_⟩
          show t_OB _ (G.2.1 (tcls (hT h a))) _ (G.2.2.1 (tcls (hT h a))) H' (fun j => kv (kt (vwTy (tcls (hT h a)) j)) (if a = a ∧ j = k then v else hF h a j))
          rw [ht]
          rw [hsl] at e1
          refine t_OB.to (V := updV (fun j => kv (kt (vwTy (tcls t) j)) (hF h a j)) k (cv (kV (kt (vwTy (tcls t) k)) v))) ⟨_, e1, q2, q3, t_set q4 hap hk _⟩ (fun j hj => ?_)
          unfold updV
          by_cases z : j = k
          · subst z; simp [cv_kV]
          · simp [z]
      · rw [e1, q1]
        simp [Cell.setSlot]
    · intro q hq
      rcases List.mem_append.mp hq with z | z
      · exact hL q z
      · rw [List.mem_singleton.mp z]
        show G.1.size ≤ (a - 1).toNat
        omega
  rcases hfin with hff | ⟨hff, hin2, hdecl⟩
  · unfold u_lay at hlay
    rw [if_neg (by rw [hff]; decide)] at hlay
    have h6 := u_store hfc hkC hkind hlay hi (hty k hk) hnf.1 hnf.2
    exact W.putK hx hb (f := f) ⟨hown, hts _ hlink, ⟨_, _, _, hsame2⟩, hst2⟩ (by rw [q2]; exact h6) q1 q3 hlt rfl rfl hd fin
  · unfold u_lay at hlay
    rw [if_pos hff] at hlay
    have hcf : m.cls = cf := by
      obtain ⟨_, _, c', _, _, _, -, -, hf', -, -, -, hown2, -⟩ := Cond.laysFinal_spec hlay
      have e1 : c' = cf := by have := hi.symm.trans hf'; simp at this; exact this.1.symm
      rw [hdecl] at hown2
      rw [← e1]; exact Option.some.inj (hown.symm.trans hown2)
    have h6 := u_fits hfc hkC hkind (Or.inr hlay) hi (hty k hk) hnf.1 hnf.2
    exact W.putFinK hx hb hown (hts _ hlink) hsame2 hst2 hcf hin2 (by rw [q2]; exact h6) q1 q3 hlt rfl rfl hd fin
theorem x_alen (HE : XE G X cc nL own fr lc h0) {t a n : Int} (hd : decode cc pc = .ok (.arraylength, 1)) {ty : FieldType} (hx : (t, ty) ∈ xAr) (ht : hT h a = t) (hn : hL h a = n) (kk : Wx G X h0 Q h (pc + 1) lo (iV n :: st)) : Wx G X h0 Q h pc lo (rV a :: st) := by
  obtain ⟨p, l, e, R, s, m, args, below, meth, c⟩ := X
  obtain ⟨hx2, hb, hml, hown, hts, hlk, hK, -⟩ := HE
  intro H locs ls cells slots ho hst hE hR hL hl
  have hxx : t < 9 ∧ t ≠ 0 := by
    simp only [xAr, List.mem_cons, List.not_mem_nil, or_false, Prod.mk.injEq] at hx
    omega
  obtain ⟨ha, hc⟩ := hR.arr ht hxx.1 hxx.2
  have hlen := (hR.1.2 a (by rw [ht]; exact hxx.2)).1
  rw [hn] at hc hlen
  have h32 : i32 n := ⟨by omega, by omega⟩
  show W p l e R s m args below meth c H locs cells slots _ (F0 m pc ls (rv a :: st.map cv))
  rw [rv_pos ha]
  refine W.alen (n := Int32.ofInt n) hx2 hb hc ((hK.2.1 _ hx).1 _ _) ?_ rfl rfl hd (kk H locs ls cells slots ho (ok3 (v := iV n) h32 hst) hE hR hL hl)
  rw [arrV_size]
  show Int32.ofNat n.toNat = Int32.ofInt n
  rw [← Int32.ofInt_eq_ofNat, Int.toNat_of_nonneg hlen.1]
/-- a loaded element -/
theorem x_ald (HE : XE G X cc nL own fr lc h0) {t a i : Int} {ty : FieldType} (hx : (t, ty) ∈ xAr) (ht : hT h a = t) (hi : 0 ≤ i ∧ i < hL h a) {v : Int} (hv : hA h a i = v)
    (hrow : ∀ {p : Program} {l : Launch} {e : Env} {R : Room} {s : State} {m : MethodId} {args : Array Value} {below : List Frame} {meth : Method} {c : Code} {H : Heap} {locs : List Loc} {ls : Array Slot} {cells slots : Nat} {Q' : State → Prop} {b : Addr} {cell : Cell} {j : Int32} {w : Value} {rest : List Value}, p.tables.exec = Jvm.exec → c.code = cc → H[b]? = some cell → s.isArrayOf cell ty → cell.vm ≠ .unknown → ¬ (j < 0 ∨ cell.slots.size ≤ j.toNatClampNeg) → cell.slots[j.toNatClampNeg]? = some w → W p l e R s m args below meth c H locs cells slots Q' (F0 m (pc + 1) ls (w :: rest)) → W p l e R s m args below meth c H locs cells slots Q' (F0 m pc ls (.int j :: .ref b :: rest)))
    (kk : Wx G X h0 Q h (pc + 1) lo (kV (ekind t) v :: st)) : Wx G X h0 Q h pc lo (iV i :: rV a :: st) := by
  obtain ⟨p, l, e, R, s, m, args, below, meth, c⟩ := X
  obtain ⟨hx2, hb, hml, hown, hts, hlk, hK, -⟩ := HE
  intro H locs ls cells slots ho hst hE hR hL hl
  have hxx : t < 9 ∧ t ≠ 0 := by
    simp only [xAr, List.mem_cons, List.not_mem_nil, or_false, Prod.mk.injEq] at hx
    omega
  obtain ⟨ha, hc⟩ := hR.arr ht hxx.1 hxx.2
  have hwf := hR.1.2 a (by rw [ht]; exact hxx.2)
  obtain ⟨hin, hix⟩ := i32_idx (okt hst) hi.1 hi.2
  have hok : kok (ekind t) v := by
    have := hwf.2.2.1 i
    rw [ht, hv] at this
    exact this
  show W p l e R s m args below meth c H locs cells slots _ (F0 m pc ls (.int (Int32.ofInt i) :: rv a :: st.map cv))
  rw [rv_pos ha]
  refine hrow hx2 hb hc ((hK.2.1 _ hx).1 _ _) (fun q => by cases q) (by rw [arrV_size]; exact hin) (w := kv (ekind t) v) ?_ ?_
  · rw [hix, arrV_read _ _ (by omega)]
    show some (kv _ (hA h a (i.toNat : Int))) = _
    rw [Int.toNat_of_nonneg hi.1, hv]
  · have := kk H locs ls cells slots ho (ok2 (okv_kV hok) hst) hE hR hL hl
    simp only [List.map_cons, cv_kV] at this
    exact this
theorem x_iald (HE : XE G X cc nL own fr lc h0) {t a i v : Int} (hd : decode cc pc = .ok (.iaload, 1)) (htt : t = 1 ∨ t = -1) (ht : hT h a = t) (hi : 0 ≤ i ∧ i < hL h a) (hv : hA h a i = v) (kk : Wx G X h0 Q h (pc + 1) lo (iV v :: st)) : Wx G X h0 Q h pc lo (iV i :: rV a :: st) := by
  have e : ekind t = 0 := by rcases htt with rfl | rfl <;> rfl
  exact x_ald HE (t := t) (ty := .int) (by rcases htt with rfl | rfl <;> simp [xAr]) ht hi hv (fun q1 q2 q3 q4 q5 q6 q7 k => W.iald q1 q2 q3 q4 q5 q6 q7 rfl rfl hd k) (by rw [e]; exact kk)
theorem x_bald (HE : XE G X cc nL own fr lc h0) {t a i v : Int} (hd : decode cc pc = .ok (.baload, 1)) (htt : t = 2 ∨ t = 7) (ht : hT h a = t) (hi : 0 ≤ i ∧ i < hL h a) (hv : hA h a i = v) (kk : Wx G X h0 Q h (pc + 1) lo (iV v :: st)) : Wx G X h0 Q h pc lo (iV i :: rV a :: st) := by
  have e : ekind t = 0 := by rcases htt with rfl | rfl <;> rfl
  exact x_ald HE (t := t) (ty := .byte) (by rcases htt with rfl | rfl <;> simp [xAr]) ht hi hv (fun q1 q2 q3 q4 q5 q6 q7 k => W.bald q1 q2 q3 q4 q5 q6 q7 rfl rfl hd k) (by rw [e]; exact kk)
theorem x_zald (HE : XE G X cc nL own fr lc h0) {a i v : Int} (hd : decode cc pc = .ok (.baload, 1)) (ht : hT h a = 3) (hi : 0 ≤ i ∧ i < hL h a) (hv : hA h a i = v) (kk : Wx G X h0 Q h (pc + 1) lo (iV v :: st)) : Wx G X h0 Q h pc lo (iV i :: rV a :: st) :=
  x_ald HE (t := 3) (ty := .boolean) (by simp [xAr]) ht hi hv (fun q1 q2 q3 q4 q5 q6 q7 k => W.zald q1 q2 q3 q4 q5 q6 q7 rfl rfl hd k) kk
theorem x_lald (HE : XE G X cc nL own fr lc h0) {a i v : Int} (hd : decode cc pc = .ok (.laload, 1)) (ht : hT h a = 4) (hi : 0 ≤ i ∧ i < hL h a) (hv : hA h a i = v) (kk : Wx G X h0 Q h (pc + 1) lo (lV v :: st)) : Wx G X h0 Q h pc lo (iV i :: rV a :: st) :=
  x_ald HE (t := 4) (ty := .long) (by simp [xAr]) ht hi hv (fun q1 q2 q3 q4 q5 q6 q7 k => W.lald q1 q2 q3 q4 q5 q6 q7 rfl rfl hd k) kk
theorem x_aald (HE : XE G X cc nL own fr lc h0) {t a i v : Int} (hd : decode cc pc = .ok (.aaload, 1)) (htt : t = 5 ∨ t = 8 ∨ t = 6) (ht : hT h a = t) (hi : 0 ≤ i ∧ i < hL h a) (hv : hA h a i = v) (kk : Wx G X h0 Q h (pc + 1) lo (rV v :: st)) : Wx G X h0 Q h pc lo (iV i :: rV a :: st) := by
  have e : ekind t = 1 := by rcases htt with rfl | rfl | rfl <;> rfl
  rcases htt with q | q
  · exact x_ald HE (t := t) (ty := .object "java/lang/Object") (by rw [q]; simp [xAr]) ht hi hv (fun q1 q2 q3 q4 q5 q6 q7 k => W.aald q1 q2 q3 q4 rfl q5 q6 q7 rfl rfl hd k) (by rw [e]; exact kk)
  · rcases q with q | q
    · exact x_ald HE (t := t) (ty := .object "java/lang/Object") (by rw [q]; simp [xAr]) ht hi hv (fun q1 q2 q3 q4 q5 q6 q7 k => W.aald q1 q2 q3 q4 rfl q5 q6 q7 rfl rfl hd k) (by rw [e]; exact kk)
    · exact x_ald HE (t := t) (ty := .object "NextAtBar$Rule") (by rw [q]; simp [xAr]) ht hi hv (fun q1 q2 q3 q4 q5 q6 q7 k => W.aald q1 q2 q3 q4 rfl q5 q6 q7 rfl rfl hd k) (by rw [e]; exact kk)
theorem Rel.stored {H H' : Heap} {t a i v : Int} {w : Value} (hR : Rel G H h) (ht : hT h a = t) (h9 : t < 9) (hz : t ≠ 0) (hro : ¬ roT t) (hi : 0 ≤ i ∧ i < hL h a) (hw : w = kv (ekind t) v) (hk : kok (ekind t) v)
    (e1 : H'[(a - 1).toNat]? = some ((arrV (G.2.2.2.1 t) (hL h a).toNat (fun j => kv (ekind t) (hA h a j))).setSlot i.toNat w)) (e2 : H'.size = H.size) (e3 : ∀ q, q ≠ (a - 1).toNat → H'[q]? = H[q]?) : Rel G H' (setA h a i v) := by
  subst ht
  obtain ⟨ha, hc⟩ := hR.arr rfl h9 hz
  refine hR.upd (h' := setA h a i v) hz hro rfl rfl rfl rfl (fun b hb => ⟨rfl, by funext j; exact if_neg (fun z => hb z.1)⟩) (fun j => (hR.1.2 a hz).2.1 j) (fun j => ?_) ?_ e2 e3 ?_
  · show kok _ (if a = a ∧ j = i then v else hA h a j)
    by_cases z : j = i
    · rw [if_pos ⟨rfl, z⟩]; exact hk
    · rw [if_neg (fun y => z y.2)]; exact (hR.1.2 a hz).2.2.1 j
  · refine ⟨fun _ => ?_, fun q => absurd h9 (by have : 9 ≤ hT h a := q; omega)⟩
    rw [e1, arrV_store]
    show some (arrV _ _ _) = some (arrV (G.2.2.2.1 (hT h a)) (hL h a).toNat (fun j : Nat => kv (ekind (hT h a)) (if a = a ∧ (j : Int) = i then v else hA h a j)))
    congr 2
    funext j
    unfold updV
    by_cases z : j = i.toNat
    · subst z
      rw [if_pos rfl, if_pos ⟨rfl, Int.toNat_of_nonneg hi.1⟩, hw]
    · rw [if_neg z, if_neg (fun y => z (by omega))]
  · rw [e1, hc]
    simp [Cell.setSlot]
/-- a stored element -/
theorem x_ast (HE : XE G X cc nL own fr lc h0) {t a i v : Int} {ty : FieldType} (hx : (t, ty) ∈ xAr) (hro : ¬ roT t) (ht : hT h a = t) (hi : 0 ≤ i ∧ i < hL h a)
    (hrow : ∀ {p : Program} {l : Launch} {e : Env} {R : Room} {s : State} {m : MethodId} {args : Array Value} {below : List Frame} {meth : Method} {c : Code} {H : Heap} {locs : List Loc} {ls : Array Slot} {cells slots : Nat} {Q' : State → Prop} {b : Addr} {cell : Cell} {j : Int32} {rest : List Value}, p.tables.exec = Jvm.exec → c.code = cc → H[b]? = some cell → s.isArrayOf cell ty → cell.vm ≠ .unknown → ¬ (j < 0 ∨ cell.slots.size ≤ j.toNatClampNeg) → (∀ H' : Heap, H'[b]? = some (cell.setSlot j.toNatClampNeg (cv (kV (ekind t) v))) → H'.size = H.size → (∀ q, q ≠ b → H'[q]? = H[q]?) → W p l e R s m args below meth c H' (locs ++ [⟨b, j.toNatClampNeg⟩]) cells slots Q' (F0 m (pc + 1) ls rest)) → W p l e R s m args below meth c H locs cells slots Q' (F0 m pc ls (cv (kV (ekind t) v) :: .int j :: .ref b :: rest)))
    (kk : ∀ h1 : Hp, h1 = setA h a i v → Ext h h1 → Wx G X h0 Q h1 (pc + 1) lo st) : Wx G X h0 Q h pc lo (kV (ekind t) v :: iV i :: rV a :: st) := by
  obtain ⟨p, l, e, R, s, m, args, below, meth, c⟩ := X
  obtain ⟨hx2, hb, hml, hown, hts, hlk, hK, -⟩ := HE
  intro H locs ls cells slots ho hst hE hR hL hl
  have hxx : t < 9 ∧ t ≠ 0 := by
    simp only [xAr, List.mem_cons, List.not_mem_nil, or_false, Prod.mk.injEq] at hx
    omega
  obtain ⟨ha, hc⟩ := hR.arr ht hxx.1 hxx.2
  have hown2 : (G.1.size : Int) < a := by
    rcases (hR.1.2 a (by rw [ht]; exact hxx.2)).2.2.2 with q | q
    · exact absurd (by rw [ht] at q; exact q) hro
    · exact q
  obtain ⟨hin, hix⟩ := i32_idx (okt (okd hst)) hi.1 hi.2
  have E1 : Ext h (setA h a i v) := Ext.setA
  show W p l e R s m args below meth c H locs cells slots _ (F0 m pc ls (cv (kV (ekind t) v) :: .int (Int32.ofInt i) :: rv a :: st.map cv))
  rw [rv_pos ha]
  refine hrow hx2 hb hc ((hK.2.1 _ hx).1 _ _) (fun q => by cases q) (by rw [arrV_size]; exact hin) (fun H' e1 e2 e3 => ?_)
  rw [hix] at e1
  refine kk _ rfl E1 H' _ ls cells slots ho (okd (okd (okd hst))) (hE.tr E1) (hR.stored ht hxx.1 hxx.2 hro hi (cv_kV _ _) (okv_kok (okt hst)) e1 e2 e3) (fun q hq => ?_) hl
  rcases List.mem_append.mp hq with z | z
  · exact hL q z
  · rw [List.mem_singleton.mp z]
    show G.1.size ≤ (a - 1).toNat
    omega
theorem x_iast (HE : XE G X cc nL own fr lc h0) {a i v : Int} (hd : decode cc pc = .ok (.iastore, 1)) (ht : hT h a = 1) (hi : 0 ≤ i ∧ i < hL h a) (kk : ∀ h1 : Hp, h1 = setA h a i v → Ext h h1 → Wx G X h0 Q h1 (pc + 1) lo st) : Wx G X h0 Q h pc lo (iV v :: iV i :: rV a :: st) :=
  x_ast HE (t := 1) (ty := .int) (by simp [xAr]) (by unfold roT; omega) ht hi (fun q1 q2 q3 q4 q5 q6 k => W.iast q1 q2 q3 q4 q5 q6 rfl rfl hd k) kk
theorem x_bast (HE : XE G X cc nL own fr lc h0) {a i v : Int} (hd : decode cc pc = .ok (.bastore, 1)) (ht : hT h a = 2) (hi : 0 ≤ i ∧ i < hL h a) (hv : -128 ≤ v ∧ v ≤ 127) (kk : ∀ h1 : Hp, h1 = setA h a i v → Ext h h1 → Wx G X h0 Q h1 (pc + 1) lo st) : Wx G X h0 Q h pc lo (iV v :: iV i :: rV a :: st) :=
  x_ast HE (t := 2) (ty := .byte) (by simp [xAr]) (by unfold roT; omega) ht hi (fun q1 q2 q3 q4 q5 q6 k => W.bast (x := Int32.ofInt v) q1 q2 q3 q4 q5 q6 rfl rfl hd (fun H' e1 e2 e3 => k H' (by rw [e1]; exact congrArg (fun z => some (Cell.setSlot _ _ z)) (nf_byte hv).1) e2 e3)) kk
theorem x_zast (HE : XE G X cc nL own fr lc h0) {a i v : Int} (hd : decode cc pc = .ok (.bastore, 1)) (ht : hT h a = 3) (hi : 0 ≤ i ∧ i < hL h a) (hv : v = 0 ∨ v = 1) (kk : ∀ h1 : Hp, h1 = setA h a i v → Ext h h1 → Wx G X h0 Q h1 (pc + 1) lo st) : Wx G X h0 Q h pc lo (iV v :: iV i :: rV a :: st) :=
  x_ast HE (t := 3) (ty := .boolean) (by simp [xAr]) (by unfold roT; omega) ht hi (fun q1 q2 q3 q4 q5 q6 k => W.zast (x := Int32.ofInt v) q1 q2 q3 q4 q5 q6 rfl rfl hd (fun H' e1 e2 e3 => k H' (by rw [e1]; exact congrArg (fun z => some (Cell.setSlot _ _ z)) (nf_bool hv).1) e2 e3)) kk
theorem x_last (HE : XE G X cc nL own fr lc h0) {a i v : Int} (hd : decode cc pc = .ok (.lastore, 1)) (ht : hT h a = 4) (hi : 0 ≤ i ∧ i < hL h a) (kk : ∀ h1 : Hp, h1 = setA h a i v → Ext h h1 → Wx G X h0 Q h1 (pc + 1) lo st) : Wx G X h0 Q h pc lo (lV v :: iV i :: rV a :: st) :=
  x_ast HE (t := 4) (ty := .long) (by simp [xAr]) (by unfold roT; omega) ht hi (fun q1 q2 q3 q4 q5 q6 k => W.last q1 q2 q3 q4 q5 q6 rfl rfl hd k) kk
end ROWS
