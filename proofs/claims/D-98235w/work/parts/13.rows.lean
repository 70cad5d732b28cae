/-! rows of Wx that leave the heap alone -/
def lol : Nat → List (Option AV) → List (Nat × Value)
  | _, [] => []
  | o, none :: t => lol (o + 1) t
  | o, some v :: t => (o, cv v) :: lol (o + 1) t
theorem lol_mem {lo : List (Option AV)} : ∀ {o : Nat} {q : Nat × Value}, q ∈ lol o lo ↔ ∃ (i : Nat) (v : AV), lo[i]? = some (some v) ∧ q = (o + i, cv v) := by
  induction lo with
  | nil => intro o q; simp [lol]
  | cons a t ih =>
    intro o q
    have key : (∃ (i : Nat) (v : AV), t[i]? = some (some v) ∧ q = (o + 1 + i, cv v)) ↔ ∃ (i : Nat) (v : AV), (a :: t)[i + 1]? = some (some v) ∧ q = (o + (i + 1), cv v) := by
      constructor
      · rintro ⟨i, v, h1, h2⟩
        exact ⟨i, v, by simpa using h1, by rw [h2]; congr 1; omega⟩
      · rintro ⟨i, v, h1, h2⟩
        exact ⟨i, v, by simpa using h1, by rw [h2]; congr 1; omega⟩
    cases a with
    | none =>
      rw [lol, ih, key]
      constructor
      · rintro ⟨i, v, h⟩; exact ⟨i + 1, v, h⟩
      · rintro ⟨i, v, h1, h2⟩
        cases i with
        | zero => simp at h1
        | succ i => exact ⟨i, v, h1, h2⟩
    | some w =>
      rw [lol, List.mem_cons, ih, key]
      constructor
      · rintro (h | ⟨i, v, h⟩)
        · exact ⟨0, w, by simp, h⟩
        · exact ⟨i + 1, v, h⟩
      · rintro ⟨i, v, h1, h2⟩
        cases i with
        | zero => simp at h1; subst h1; exact Or.inl h2
        | succ i => exact Or.inr ⟨i, v, h1, h2⟩
theorem xhas.lv {ls : Array Slot} {lo : List (Option AV)} (h : xhas ls lo) : lv_has ls lo.length (lol 0 lo) := by
  refine ⟨h.1, h.2.1, fun q hq => ?_⟩
  obtain ⟨i, v, h1, rfl⟩ := lol_mem.mp hq
  simpa using h.2.2 i v h1
theorem cat_l {v : AV} (h : okl v) : (cv v).category = 1 := by
  rcases v with x | x | x
  · rfl
  · simp only [cv, rv]; split <;> rfl
  · exact absurd h (by simp [okl])
theorem okl_okv {v : AV} (h : okl v) : okv v := by
  rcases v with x | x | x
  · exact h
  · exact h
  · exact absurd h (by simp [okl])
theorem xhas.store {ls' : Array Slot} {lo : List (Option AV)} {i : Nat} {v : AV} (ho : ∀ w, some w ∈ lo → okl w) (hi : i < lo.length) (h' : lv_has ls' lo.length ((i, cv v) :: (lol 0 lo).filter (fun q => !(q.1 == i) && !(q.1 + 1 == i && q.2.category == 2)))) : xhas ls' (lo.set i (some v)) := by
  refine ⟨by rw [h'.1, List.length_set], h'.2.1, fun j w hw => ?_⟩
  by_cases e : j = i
  · subst e
    rw [List.getElem?_set_self hi] at hw
    cases hw
    exact h'.2.2 _ List.mem_cons_self
  · rw [List.getElem?_set_ne (Ne.symm e)] at hw
    refine h'.2.2 (j, cv w) (List.mem_cons_of_mem _ (List.mem_filter.mpr ⟨lol_mem.mpr ⟨j, w, hw, by simp⟩, ?_⟩))
    have hc := cat_l (ho w (List.mem_of_getElem? hw))
    simp [hc, e]
theorem okl_set {lo : List (Option AV)} {i : Nat} {v : AV} (ho : ∀ w, some w ∈ lo → okl w) (hv : okl v) : ∀ w, some w ∈ lo.set i (some v) → okl w := by
  intro w hw
  rcases List.mem_or_eq_of_mem_set hw with h | h
  · exact ho w h
  · cases h; exact hv
section ROWS
variable {G : GT} {X : ET} {cc : ByteArray} {nL fr lc : Nat} {own : String} {h0 h : Hp} {Q : Option AV → Hp → Prop} {pc : Nat} {lo : List (Option AV)} {st : List AV}
theorem Wx.step {pc2 : Nat} {st2 : List AV} (HE : XE G X cc nL own fr lc h0) (hs : (∀ v ∈ st, okv v) → (∀ v ∈ st2, okv v))
    (hw : ∀ {p : Program} {l : Launch} {e : Env} {R : Room} {s : State} {m : MethodId} {args : Array Value} {below : List Frame} {meth : Method} {c : Code} {H : Heap} {locs : List Loc} {ls : Array Slot} {cells slots : Nat} {Q' : State → Prop}, p.tables.exec = Jvm.exec → c.code = cc → s.vm.findClass own = some m.cls → (∀ w ∈ lw_all, w.before args s = true) → GK G s → (∀ v, some v ∈ lo → okl v) → (∀ v ∈ st, okv v) → xhas ls lo → W p l e R s m args below meth c H locs cells slots Q' (F0 m pc2 ls (st2.map cv)) → W p l e R s m args below meth c H locs cells slots Q' (F0 m pc ls (st.map cv)))
    (kk : Wx G X h0 Q h pc2 lo st2) : Wx G X h0 Q h pc lo st := by
  obtain ⟨p, l, e, R, s, m, args, below, meth, c⟩ := X
  obtain ⟨hx, hb, hml, hown, hts, hlk, hK, -⟩ := HE
  intro H locs ls cells slots ho hst hE hR hL hl
  exact hw hx hb hown hts hK ho hst hl (kk H locs ls cells slots ho (hs hst) hE hR hL hl)
theorem Wx.start (kk : Ext h0 h → Wx G X h0 Q h pc lo st) : Wx G X h0 Q h pc lo st := by
  obtain ⟨p, l, e, R, s, m, args, below, meth, c⟩ := X
  intro H locs ls cells slots ho hst hE hR hL hl
  exact kk hE H locs ls cells slots ho hst hE hR hL hl
/-- less is known of the locals -/
theorem Wx.less {lo2 : List (Option AV)} (hl2 : lo2.length = lo.length) (hs : ∀ (i : Nat) (v : AV), lo2[i]? = some (some v) → lo[i]? = some (some v)) (kk : Wx G X h0 Q h pc lo2 st) : Wx G X h0 Q h pc lo st := by
  obtain ⟨p, l, e, R, s, m, args, below, meth, c⟩ := X
  intro H locs ls cells slots ho hst hE hR hL hl
  refine kk H locs ls cells slots (fun v hv => ?_) hst hE hR hL ⟨hl.1.trans hl2.symm, hl.2.1, fun i v hv => hl.2.2 i v (hs i v hv)⟩
  obtain ⟨i, hi⟩ := List.getElem?_of_mem hv
  exact ho v (List.mem_of_getElem? (hs i v hi))
def leLo : List (Option AV) → List (Option AV) → Prop
  | [], [] => True
  | none :: a, _ :: b => leLo a b
  | some v :: a, w :: b => w = some v ∧ leLo a b
  | _, _ => False
theorem leLo_spec : ∀ {a b : List (Option AV)}, leLo a b → a.length = b.length ∧ ∀ (i : Nat) (v : AV), a[i]? = some (some v) → b[i]? = some (some v)
  | [], [], _ => ⟨rfl, fun i v h => by simp at h⟩
  | none :: a, w :: b, h => by
    have ih := leLo_spec (a := a) (b := b) h
    refine ⟨by simp [ih.1], fun i v hv => ?_⟩
    cases i with
    | zero => simp at hv
    | succ i => simpa using ih.2 i v (by simpa using hv)
  | some x :: a, w :: b, h => by
    have ih := leLo_spec (a := a) (b := b) h.2
    refine ⟨by simp [ih.1], fun i v hv => ?_⟩
    cases i with
    | zero => simp at hv; simp [h.1, hv]
    | succ i => simpa using ih.2 i v (by simpa using hv)
  | [], _ :: _, h => absurd h (by simp [leLo])
  | none :: _, [], h => absurd h (by simp [leLo])
  | some _ :: _, [], h => absurd h (by simp [leLo])
theorem Wx.join {lo2 : List (Option AV)} (hl : leLo lo2 lo) (kk : Wx G X h0 Q h pc lo2 st) : Wx G X h0 Q h pc lo st := Wx.less (leLo_spec hl).1 (leLo_spec hl).2 kk
theorem ok1 {v : AV} (hv : okv v) (o : ∀ w ∈ st, okv w) : ∀ w ∈ v :: st, okv w := List.forall_mem_cons.mpr ⟨hv, o⟩
theorem ok2 {v a b : AV} (hv : okv v) (o : ∀ w ∈ a :: b :: st, okv w) : ∀ w ∈ v :: st, okv w := ok1 hv (List.forall_mem_cons.mp (List.forall_mem_cons.mp o).2).2
theorem ok3 {v a : AV} (hv : okv v) (o : ∀ w ∈ a :: st, okv w) : ∀ w ∈ v :: st, okv w := ok1 hv (List.forall_mem_cons.mp o).2
theorem okd {a : AV} (o : ∀ w ∈ a :: st, okv w) : ∀ w ∈ st, okv w := (List.forall_mem_cons.mp o).2
theorem okt {a : AV} (o : ∀ w ∈ a :: st, okv w) : okv a := (List.forall_mem_cons.mp o).1
theorem i8c {n : Int} (h : -128 ≤ n ∧ n ≤ 127) : (Int8.ofInt n).toInt32 = Int32.ofInt n := by
  rw [← Int32.toInt_inj, Int8.toInt_toInt32, Int8.toInt_ofInt_of_le h.1 (by omega), i32_toInt ⟨by omega, by omega⟩]
theorem i16c {n : Int} (h : -32768 ≤ n ∧ n ≤ 32767) : (Int16.ofInt n).toInt32 = Int32.ofInt n := by
  rw [← Int32.toInt_inj, Int16.toInt_toInt32, Int16.toInt_ofInt_of_le h.1 (by omega), i32_toInt ⟨by omega, by omega⟩]
theorem x_iconst (HE : XE G X cc nL own fr lc h0) {n : Int} (hd : decode cc pc = .ok (.iconst n, 1)) (hr : -128 ≤ n ∧ n ≤ 127) (kk : Wx G X h0 Q h (pc + 1) lo (iV n :: st)) : Wx G X h0 Q h pc lo st :=
  Wx.step HE (ok1 (v := iV n) (show i32 n from ⟨by omega, by omega⟩)) (fun hx hb _ _ _ _ _ _ k => lv_iconst hx hb hd rfl k) kk
theorem x_bipush (HE : XE G X cc nL own fr lc h0) {n : Int} (hd : decode cc pc = .ok (.bipush n, 2)) (hr : -128 ≤ n ∧ n ≤ 127) (kk : Wx G X h0 Q h (pc + 2) lo (iV n :: st)) : Wx G X h0 Q h pc lo st :=
  Wx.step HE (ok1 (v := iV n) (show i32 n from ⟨by omega, by omega⟩)) (fun hx hb _ _ _ _ _ _ k => lv_bipush hx hb hd (i8c hr) k) kk
theorem x_sipush (HE : XE G X cc nL own fr lc h0) {n : Int} (hd : decode cc pc = .ok (.sipush n, 3)) (hr : -32768 ≤ n ∧ n ≤ 32767) (kk : Wx G X h0 Q h (pc + 3) lo (iV n :: st)) : Wx G X h0 Q h pc lo st :=
  Wx.step HE (ok1 (v := iV n) (show i32 n from ⟨by omega, by omega⟩)) (fun hx hb _ _ _ _ _ _ k => lv_sipush hx hb hd (i16c hr) k) kk
theorem x_ldcI (HE : XE G X cc nL own fr lc h0) {idx : Nat} {v : Int32} {n : Int} (hd : decode cc pc = .ok (.ldc idx, 2)) (hc : Jvm.Cond.constant own idx v ∈ lw_all) (hn : i32 n) (hv : v = Int32.ofInt n) (kk : Wx G X h0 Q h (pc + 2) lo (iV n :: st)) : Wx G X h0 Q h pc lo st :=
  Wx.step HE (ok1 (v := iV n) hn) (fun hx hb ho ht _ _ _ _ k => lv_ldc hx hb ho (ht _ hc) hd (by rw [hv]; exact k)) kk
theorem x_null (HE : XE G X cc nL own fr lc h0) (hd : decode cc pc = .ok (.aconst_null, 1)) (kk : Wx G X h0 Q h (pc + 1) lo (rV 0 :: st)) : Wx G X h0 Q h pc lo st :=
  Wx.step HE (ok1 (v := rV 0) (show (0 : Int) ≤ 0 from Int.le_refl 0)) (fun hx hb _ _ _ _ _ _ k => lv_null hx hb hd k) kk
theorem lo_ok {lo : List (Option AV)} {i : Nat} {v : AV} (ho : ∀ w, some w ∈ lo → okl w) (hl : lo[i]? = some (some v)) : okl v := ho v (List.mem_of_getElem? hl)
theorem x_iload_n (HE : XE G X cc nL own fr lc h0) {k : Fin 4} (i : Nat) {x : Int} (hd : decode cc pc = .ok (.iload_n k, 1)) (hi : (k : Nat) = i) (hl : lo[i]? = some (some (iV x))) (kk : Wx G X h0 Q h (pc + 1) lo (iV x :: st)) : Wx G X h0 Q h pc lo st := by
  obtain ⟨p, l, e, R, s, m, args, below, meth, c⟩ := X
  obtain ⟨hx, hb, -⟩ := HE
  intro H locs ls cells slots ho hst hE hR hL hlo
  exact lv_iload_n hx hb hd hi (hlo.2.2 i _ hl) (kk H locs ls cells slots ho (ok1 (okl_okv (lo_ok ho hl)) hst) hE hR hL hlo)
theorem x_iload (HE : XE G X cc nL own fr lc h0) {i : Nat} {x : Int} (hd : decode cc pc = .ok (.iload i, 2)) (hl : lo[i]? = some (some (iV x))) (kk : Wx G X h0 Q h (pc + 2) lo (iV x :: st)) : Wx G X h0 Q h pc lo st := by
  obtain ⟨p, l, e, R, s, m, args, below, meth, c⟩ := X
  obtain ⟨hx, hb, -⟩ := HE
  intro H locs ls cells slots ho hst hE hR hL hlo
  exact lv_iload hx hb hd (hlo.2.2 i _ hl) (kk H locs ls cells slots ho (ok1 (okl_okv (lo_ok ho hl)) hst) hE hR hL hlo)
theorem x_aload_n (HE : XE G X cc nL own fr lc h0) {k : Fin 4} (i : Nat) {a : Int} (hd : decode cc pc = .ok (.aload_n k, 1)) (hi : (k : Nat) = i) (hl : lo[i]? = some (some (rV a))) (kk : Wx G X h0 Q h (pc + 1) lo (rV a :: st)) : Wx G X h0 Q h pc lo st := by
  obtain ⟨p, l, e, R, s, m, args, below, meth, c⟩ := X
  obtain ⟨hx, hb, -⟩ := HE
  intro H locs ls cells slots ho hst hE hR hL hlo
  have k1 := kk H locs ls cells slots ho (ok1 (okl_okv (lo_ok ho hl)) hst) hE hR hL hlo
  have e1 := hlo.2.2 i _ hl
  simp only [List.map_cons, cv, rv] at k1 e1
  by_cases q : a ≤ 0
  · rw [if_pos q] at k1 e1
    exact lv_aload_nN hx hb hd hi e1 k1
  · rw [if_neg q] at k1 e1
    exact lv_aload_n hx hb hd hi e1 k1
theorem x_aload (HE : XE G X cc nL own fr lc h0) {i : Nat} {a : Int} (hd : decode cc pc = .ok (.aload i, 2)) (hl : lo[i]? = some (some (rV a))) (kk : Wx G X h0 Q h (pc + 2) lo (rV a :: st)) : Wx G X h0 Q h pc lo st := by
  obtain ⟨p, l, e, R, s, m, args, below, meth, c⟩ := X
  obtain ⟨hx, hb, -⟩ := HE
  intro H locs ls cells slots ho hst hE hR hL hlo
  have k1 := kk H locs ls cells slots ho (ok1 (okl_okv (lo_ok ho hl)) hst) hE hR hL hlo
  have e1 := hlo.2.2 i _ hl
  simp only [List.map_cons, cv, rv] at k1 e1
  by_cases q : a ≤ 0
  · rw [if_pos q] at k1 e1
    exact lv_aloadN hx hb hd e1 k1
  · rw [if_neg q] at k1 e1
    exact lv_aload hx hb hd e1 k1
theorem x_istore_n (HE : XE G X cc nL own fr lc h0) {k : Fin 4} (i : Nat) {x : Int} {lo' : List (Option AV)} (hd : decode cc pc = .ok (.istore_n k, 1)) (hi : (k : Nat) = i) (hn : i < lo.length) (hl : lo.set i (some (iV x)) = lo') (kk : Wx G X h0 Q h (pc + 1) lo' st) : Wx G X h0 Q h pc lo (iV x :: st) := by
  obtain ⟨p, l, e, R, s, m, args, below, meth, c⟩ := X
  obtain ⟨hx, hb, -⟩ := HE
  intro H locs ls cells slots ho hst hE hR hL hlo
  subst hl
  exact lv_istore_n hx hb hd hi hlo.lv hn rfl (fun ls' h' => kk H locs ls' cells slots (okl_set ho (okt hst)) (okd hst) hE hR hL (xhas.store (v := iV x) ho hn h'))
theorem x_istore (HE : XE G X cc nL own fr lc h0) {i : Nat} {x : Int} {lo' : List (Option AV)} (hd : decode cc pc = .ok (.istore i, 2)) (hn : i < lo.length) (hl : lo.set i (some (iV x)) = lo') (kk : Wx G X h0 Q h (pc + 2) lo' st) : Wx G X h0 Q h pc lo (iV x :: st) := by
  obtain ⟨p, l, e, R, s, m, args, below, meth, c⟩ := X
  obtain ⟨hx, hb, -⟩ := HE
  intro H locs ls cells slots ho hst hE hR hL hlo
  subst hl
  exact lv_istore hx hb hd hlo.lv hn rfl (fun ls' h' => kk H locs ls' cells slots (okl_set ho (okt hst)) (okd hst) hE hR hL (xhas.store (v := iV x) ho hn h'))
theorem x_astore_n (HE : XE G X cc nL own fr lc h0) {k : Fin 4} (i : Nat) {a : Int} {lo' : List (Option AV)} (hd : decode cc pc = .ok (.astore_n k, 1)) (hi : (k : Nat) = i) (hn : i < lo.length) (hl : lo.set i (some (rV a)) = lo') (kk : Wx G X h0 Q h (pc + 1) lo' st) : Wx G X h0 Q h pc lo (rV a :: st) := by
  obtain ⟨p, l, e, R, s, m, args, below, meth, c⟩ := X
  obtain ⟨hx, hb, -⟩ := HE
  intro H locs ls cells slots ho hst hE hR hL hlo
  subst hl
  have kk1 := fun (ls' : Array Slot) (h' : lv_has ls' lo.length ((i, cv (rV a)) :: (lol 0 lo).filter (fun q => !(q.1 == i) && !(q.1 + 1 == i && q.2.category == 2)))) => kk H locs ls' cells slots (okl_set (v := rV a) ho (okt hst)) (okd hst) hE hR hL (xhas.store (v := rV a) ho hn h')
  show W p l e R s m args below meth c H locs cells slots _ (F0 m pc ls (rv a :: st.map cv))
  simp only [cv, rv] at kk1 ⊢
  by_cases q : a ≤ 0
  · simp only [if_pos q] at kk1 ⊢
    exact lv_astore_nN hx hb hd hi hlo.lv hn rfl kk1
  · simp only [if_neg q] at kk1 ⊢
    exact lv_astore_n hx hb hd hi hlo.lv hn rfl kk1
theorem x_astore (HE : XE G X cc nL own fr lc h0) {i : Nat} {a : Int} {lo' : List (Option AV)} (hd : decode cc pc = .ok (.astore i, 2)) (hn : i < lo.length) (hl : lo.set i (some (rV a)) = lo') (kk : Wx G X h0 Q h (pc + 2) lo' st) : Wx G X h0 Q h pc lo (rV a :: st) := by
  obtain ⟨p, l, e, R, s, m, args, below, meth, c⟩ := X
  obtain ⟨hx, hb, -⟩ := HE
  intro H locs ls cells slots ho hst hE hR hL hlo
  subst hl
  have kk1 := fun (ls' : Array Slot) (h' : lv_has ls' lo.length ((i, cv (rV a)) :: (lol 0 lo).filter (fun q => !(q.1 == i) && !(q.1 + 1 == i && q.2.category == 2)))) => kk H locs ls' cells slots (okl_set (v := rV a) ho (okt hst)) (okd hst) hE hR hL (xhas.store (v := rV a) ho hn h')
  show W p l e R s m args below meth c H locs cells slots _ (F0 m pc ls (rv a :: st.map cv))
  simp only [cv, rv] at kk1 ⊢
  by_cases q : a ≤ 0
  · simp only [if_pos q] at kk1 ⊢
    exact lv_astoreN hx hb hd hlo.lv hn rfl kk1
  · simp only [if_neg q] at kk1 ⊢
    exact lv_astore hx hb hd hlo.lv hn rfl kk1
theorem x_iinc (HE : XE G X cc nL own fr lc h0) {i : Nat} {n x : Int} {lo' : List (Option AV)} (hd : decode cc pc = .ok (.iinc i n, 3)) (hk : lo[i]? = some (some (iV x))) (hr : i32 (x + n)) (hn : i < lo.length) (hl : lo.set i (some (iV (x + n))) = lo') (kk : Wx G X h0 Q h (pc + 3) lo' st) : Wx G X h0 Q h pc lo st := by
  obtain ⟨p, l, e, R, s, m, args, below, meth, c⟩ := X
  obtain ⟨hx, hb, -⟩ := HE
  intro H locs ls cells slots ho hst hE hR hL hlo
  subst hl
  obtain ⟨k, hk2⟩ := List.getElem?_of_mem (lol_mem.mpr ⟨i, _, hk, rfl⟩ : ((0 + i, cv (iV x)) : Nat × Value) ∈ lol 0 lo)
  rw [Nat.zero_add] at hk2
  exact lv_iinc (v := Int32.ofInt (x + n)) hx hb hd hlo.lv hk2 (by rw [Int32.ofInt_add]) hn rfl (fun ls' h' => kk H locs ls' cells slots (okl_set (v := iV (x + n)) ho hr) hst hE hR hL (xhas.store (v := iV (x + n)) ho hn h'))
theorem x_iadd (HE : XE G X cc nL own fr lc h0) {x y : Int} (hd : decode cc pc = .ok (.iadd, 1)) (hr : i32 (x + y)) (kk : Wx G X h0 Q h (pc + 1) lo (iV (x + y) :: st)) : Wx G X h0 Q h pc lo (iV y :: iV x :: st) :=
  Wx.step HE (ok2 (v := iV _) hr) (fun hx hb _ _ _ _ _ _ k => lv_iadd hx hb hd (by rw [← Int32.ofInt_add]; exact k)) kk
theorem x_isub (HE : XE G X cc nL own fr lc h0) {x y : Int} (hd : decode cc pc = .ok (.isub, 1)) (hr : i32 (x - y)) (kk : Wx G X h0 Q h (pc + 1) lo (iV (x - y) :: st)) : Wx G X h0 Q h pc lo (iV y :: iV x :: st) :=
  Wx.step HE (ok2 (v := iV _) hr) (fun hx hb _ _ _ _ _ _ k => lv_isub hx hb hd (by rw [← Int32.ofInt_sub]; exact k)) kk
theorem x_imul (HE : XE G X cc nL own fr lc h0) {x y : Int} (hd : decode cc pc = .ok (.imul, 1)) (hr : i32 (x * y)) (kk : Wx G X h0 Q h (pc + 1) lo (iV (x * y) :: st)) : Wx G X h0 Q h pc lo (iV y :: iV x :: st) :=
  Wx.step HE (ok2 (v := iV _) hr) (fun hx hb _ _ _ _ _ _ k => lv_imul hx hb hd (by rw [← Int32.ofInt_mul]; exact k)) kk
theorem x_ineg (HE : XE G X cc nL own fr lc h0) {x : Int} (hd : decode cc pc = .ok (.ineg, 1)) (hr : i32 (-x)) (kk : Wx G X h0 Q h (pc + 1) lo (iV (-x) :: st)) : Wx G X h0 Q h pc lo (iV x :: st) :=
  Wx.step HE (ok3 (v := iV _) hr) (fun hx hb _ _ _ _ _ _ k => lv_ineg hx hb hd (by rw [← Int32.ofInt_neg]; exact k)) kk
/-- arithmetic that wraps (hash codes) -/
def w32 (x : Int) : Int := (Int32.ofInt x).toInt
theorem w32_of {x : Int} (h : i32 x) : w32 x = x := i32_toInt h
theorem w32_i (x : Int) : i32 (w32 x) := i32_of _
theorem w32_c (x : Int) : Int32.ofInt (w32 x) = Int32.ofInt x := ofInt_toInt32 _
theorem x_iaddW (HE : XE G X cc nL own fr lc h0) {x y : Int} (hd : decode cc pc = .ok (.iadd, 1)) (kk : Wx G X h0 Q h (pc + 1) lo (iV (w32 (x + y)) :: st)) : Wx G X h0 Q h pc lo (iV y :: iV x :: st) :=
  Wx.step HE (ok2 (v := iV _) (w32_i _)) (fun hx hb _ _ _ _ _ _ k => lv_iadd hx hb hd (by rw [← Int32.ofInt_add, ← w32_c]; exact k)) kk
theorem x_imulW (HE : XE G X cc nL own fr lc h0) {x y : Int} (hd : decode cc pc = .ok (.imul, 1)) (kk : Wx G X h0 Q h (pc + 1) lo (iV (w32 (x * y)) :: st)) : Wx G X h0 Q h pc lo (iV y :: iV x :: st) :=
  Wx.step HE (ok2 (v := iV _) (w32_i _)) (fun hx hb _ _ _ _ _ _ k => lv_imul hx hb hd (by rw [← Int32.ofInt_mul, ← w32_c]; exact k)) kk
theorem x_idiv (HE : XE G X cc nL own fr lc h0) {x y : Int} (hd : decode cc pc = .ok (.idiv, 1)) (hx0 : 0 ≤ x) (hy0 : 0 < y) (kk : Wx G X h0 Q h (pc + 1) lo (iV (x / y) :: st)) : Wx G X h0 Q h pc lo (iV y :: iV x :: st) := by
  have hle : x / y ≤ x := Int.ediv_le_self y hx0
  have hge : 0 ≤ x / y := Int.ediv_nonneg hx0 (by omega)
  refine Wx.step HE (fun o => ok2 (v := iV _) (show i32 _ from ?_) o) (fun hx hb _ _ _ _ o _ k => ?_) kk
  · have h2 : i32 x := okt (okd o)
    unfold i32 at h2 ⊢
    omega
  · have h1 : i32 y := okt o
    have h2 : i32 x := okt (okd o)
    refine lv_idiv hx hb hd (fun e => ?_) ?_
    · have := (i32_eq h1 i32_0).mp e
      omega
    · have e : Int32.ofInt x / Int32.ofInt y = Int32.ofInt (x / y) := by
        rw [← Int32.toInt_inj, Int32.toInt_div_of_ne_right _ _ (fun e => by
          have h3 := congrArg Int32.toInt e
          rw [i32_toInt h1] at h3
          have h4 : (-1 : Int32).toInt = -1 := by decide
          omega), i32_toInt h1, i32_toInt h2, i32_toInt (show i32 (x / y) from by unfold i32 at h2 ⊢; omega), Int.tdiv_eq_ediv_of_nonneg hx0]
      rw [e]; exact k
theorem x_irem (HE : XE G X cc nL own fr lc h0) {x y : Int} (hd : decode cc pc = .ok (.irem, 1)) (hx0 : 0 ≤ x) (hy0 : 0 < y) (kk : Wx G X h0 Q h (pc + 1) lo (iV (x % y) :: st)) : Wx G X h0 Q h pc lo (iV y :: iV x :: st) := by
  have hle : x / y ≤ x := Int.ediv_le_self y hx0
  have hge : 0 ≤ x / y := Int.ediv_nonneg hx0 (by omega)
  have m1 : 0 ≤ x % y := Int.emod_nonneg x (by omega)
  have m2 : x % y < y := Int.emod_lt_of_pos x hy0
  refine Wx.step HE (fun o => ok2 (v := iV _) (show i32 _ from ?_) o) (fun hx hb _ _ _ _ o _ k => ?_) kk
  · have h2 : i32 y := okt o
    unfold i32 at h2 ⊢
    omega
  · have h1 : i32 y := okt o
    have h2 : i32 x := okt (okd o)
    refine lv_irem hx hb hd (fun e => ?_) ?_
    · have := (i32_eq h1 i32_0).mp e
      omega
    · have e : Int32.ofInt x / Int32.ofInt y = Int32.ofInt (x / y) := by
        rw [← Int32.toInt_inj, Int32.toInt_div_of_ne_right _ _ (fun e => by
          have h3 := congrArg Int32.toInt e
          rw [i32_toInt h1] at h3
          have h4 : (-1 : Int32).toInt = -1 := by decide
          omega), i32_toInt h1, i32_toInt h2, i32_toInt (show i32 (x / y) from by unfold i32 at h2 ⊢; omega), Int.tdiv_eq_ediv_of_nonneg hx0]
      rw [e, ← Int32.ofInt_mul, ← Int32.ofInt_sub, show x - x / y * y = x % y by rw [Int.emod_def, Int.mul_comm]]
      exact k
def bAnd (x y : Int) : Int := (Int32.ofInt x &&& Int32.ofInt y).toInt
def bOr (x y : Int) : Int := (Int32.ofInt x ||| Int32.ofInt y).toInt
def bXor (x y : Int) : Int := (Int32.ofInt x ^^^ Int32.ofInt y).toInt
def bShl (x y : Int) : Int := (Int32.ofInt x <<< (Int32.ofInt y &&& 31)).toInt
def bShr (x y : Int) : Int := (Int32.ofInt x >>> (Int32.ofInt y &&& 31)).toInt
def bUsh (x y : Int) : Int := ((Int32.ofInt x).toUInt32 >>> ((Int32.ofInt y).toUInt32 &&& Int32.toUInt32 31)).toInt32.toInt
def bByte (x : Int) : Int := ((Int32.ofInt x).toInt8.toInt32).toInt
def bChar (x : Int) : Int := (((Int32.ofInt x).toUInt32 % 65536).toInt32).toInt
theorem x_iand (HE : XE G X cc nL own fr lc h0) {x y : Int} (hd : decode cc pc = .ok (.iand, 1)) (kk : Wx G X h0 Q h (pc + 1) lo (iV (bAnd x y) :: st)) : Wx G X h0 Q h pc lo (iV y :: iV x :: st) :=
  Wx.step HE (ok2 (v := iV _) (i32_of _)) (fun hx hb _ _ _ _ _ _ k => lv_iand hx hb hd (by simp only [List.map_cons, cv, bAnd, ofInt_toInt32] at k; exact k)) kk
theorem x_ior (HE : XE G X cc nL own fr lc h0) {x y : Int} (hd : decode cc pc = .ok (.ior, 1)) (kk : Wx G X h0 Q h (pc + 1) lo (iV (bOr x y) :: st)) : Wx G X h0 Q h pc lo (iV y :: iV x :: st) :=
  Wx.step HE (ok2 (v := iV _) (i32_of _)) (fun hx hb _ _ _ _ _ _ k => lv_ior hx hb hd (by simp only [List.map_cons, cv, bOr, ofInt_toInt32] at k; exact k)) kk
theorem x_ixor (HE : XE G X cc nL own fr lc h0) {x y : Int} (hd : decode cc pc = .ok (.ixor, 1)) (kk : Wx G X h0 Q h (pc + 1) lo (iV (bXor x y) :: st)) : Wx G X h0 Q h pc lo (iV y :: iV x :: st) :=
  Wx.step HE (ok2 (v := iV _) (i32_of _)) (fun hx hb _ _ _ _ _ _ k => lv_ixor hx hb hd (by simp only [List.map_cons, cv, bXor, ofInt_toInt32] at k; exact k)) kk
theorem x_ishl (HE : XE G X cc nL own fr lc h0) {x y : Int} (hd : decode cc pc = .ok (.ishl, 1)) (kk : Wx G X h0 Q h (pc + 1) lo (iV (bShl x y) :: st)) : Wx G X h0 Q h pc lo (iV y :: iV x :: st) :=
  Wx.step HE (ok2 (v := iV _) (i32_of _)) (fun hx hb _ _ _ _ _ _ k => lv_ishl hx hb hd (by simp only [List.map_cons, cv, bShl, ofInt_toInt32] at k; exact k)) kk
theorem x_ishr (HE : XE G X cc nL own fr lc h0) {x y : Int} (hd : decode cc pc = .ok (.ishr, 1)) (kk : Wx G X h0 Q h (pc + 1) lo (iV (bShr x y) :: st)) : Wx G X h0 Q h pc lo (iV y :: iV x :: st) :=
  Wx.step HE (ok2 (v := iV _) (i32_of _)) (fun hx hb _ _ _ _ _ _ k => lv_ishr hx hb hd (by simp only [List.map_cons, cv, bShr, ofInt_toInt32] at k; exact k)) kk
theorem x_iushr (HE : XE G X cc nL own fr lc h0) {x y : Int} (hd : decode cc pc = .ok (.iushr, 1)) (kk : Wx G X h0 Q h (pc + 1) lo (iV (bUsh x y) :: st)) : Wx G X h0 Q h pc lo (iV y :: iV x :: st) :=
  Wx.step HE (ok2 (v := iV _) (i32_of _)) (fun hx hb _ _ _ _ _ _ k => lv_iushr hx hb hd rfl (by simp only [List.map_cons, cv, bUsh, ofInt_toInt32] at k; exact k)) kk
theorem x_i2b (HE : XE G X cc nL own fr lc h0) {x : Int} (hd : decode cc pc = .ok (.i2b, 1)) (kk : Wx G X h0 Q h (pc + 1) lo (iV (bByte x) :: st)) : Wx G X h0 Q h pc lo (iV x :: st) :=
  Wx.step HE (ok3 (v := iV _) (i32_of _)) (fun hx hb _ _ _ _ _ _ k => lv_i2b hx hb hd rfl (by simp only [List.map_cons, cv, bByte, ofInt_toInt32] at k; exact k)) kk
theorem x_i2c (HE : XE G X cc nL own fr lc h0) {x : Int} (hd : decode cc pc = .ok (.i2c, 1)) (kk : Wx G X h0 Q h (pc + 1) lo (iV (bChar x) :: st)) : Wx G X h0 Q h pc lo (iV x :: st) :=
  Wx.step HE (ok3 (v := iV _) (i32_of _)) (fun hx hb _ _ _ _ _ _ k => lv_i2c hx hb hd rfl (by simp only [List.map_cons, cv, bChar, ofInt_toInt32] at k; exact k)) kk
theorem x_i2l (HE : XE G X cc nL own fr lc h0) {x : Int} (hd : decode cc pc = .ok (.i2l, 1)) (kk : Wx G X h0 Q h (pc + 1) lo (lV x :: st)) : Wx G X h0 Q h pc lo (iV x :: st) :=
  Wx.step HE (fun o => ok3 (v := lV x) (show i64 x from by have h1 : i32 x := okt o; unfold i32 at h1; unfold i64; omega) o) (fun hx hb _ _ _ _ o _ k => lv_i2l hx hb hd (v := Int64.ofInt x) (by
    have h1 : i32 x := okt o
    rw [← Int64.toInt_inj, Int32.toInt_toInt64, i32_toInt h1, Int64.toInt_ofInt_of_le (by unfold i32 at h1; omega) (by unfold i32 at h1; omega)]) k) kk
theorem x_dup (HE : XE G X cc nL own fr lc h0) {v : AV} (hd : decode cc pc = .ok (.dup, 1)) (hc : okv v → okl v) (kk : Wx G X h0 Q h (pc + 1) lo (v :: v :: st)) : Wx G X h0 Q h pc lo (v :: st) :=
  Wx.step HE (fun o => ok1 (okt o) o) (fun hx hb _ _ _ _ o _ k => lv_dup hx hb hd (cat_l (hc (okt o))) k) kk
theorem x_pop (HE : XE G X cc nL own fr lc h0) {v : AV} (hd : decode cc pc = .ok (.pop, 1)) (hc : okv v → okl v) (kk : Wx G X h0 Q h (pc + 1) lo st) : Wx G X h0 Q h pc lo (v :: st) :=
  Wx.step HE okd (fun hx hb _ _ _ _ o _ k => lv_pop hx hb hd (cat_l (hc (okt o))) k) kk
theorem x_dup_x1 (HE : XE G X cc nL own fr lc h0) {v w : AV} (hd : decode cc pc = .ok (.dup_x1, 1)) (hc : okv v → okl v) (hc2 : okv w → okl w) (kk : Wx G X h0 Q h (pc + 1) lo (v :: w :: v :: st)) : Wx G X h0 Q h pc lo (v :: w :: st) :=
  Wx.step HE (fun o => ok1 (okt o) (ok1 (okt (okd o)) (ok1 (okt o) (okd (okd o))))) (fun hx hb _ _ _ _ o _ k => lv_dup_x1 hx hb hd (cat_l (hc (okt o))) (cat_l (hc2 (okt (okd o)))) k) kk
theorem x_dup2 (HE : XE G X cc nL own fr lc h0) {v w : AV} (hd : decode cc pc = .ok (.dup2, 1)) (hc : okv v → okl v) (hc2 : okv w → okl w) (kk : Wx G X h0 Q h (pc + 1) lo (v :: w :: v :: w :: st)) : Wx G X h0 Q h pc lo (v :: w :: st) :=
  Wx.step HE (fun o => ok1 (okt o) (ok1 (okt (okd o)) o)) (fun hx hb _ _ _ _ o _ k => lv_dup2_11 hx hb hd (cat_l (hc (okt o))) (cat_l (hc2 (okt (okd o)))) k) kk
theorem x_goto (HE : XE G X cc nL own fr lc h0) {off : Int} (tgt : Nat) (hd : decode cc pc = .ok (.goto off, 3)) (ht : (pc : Int) + off = (tgt : Int)) (kk : Wx G X h0 Q h tgt lo st) : Wx G X h0 Q h pc lo st :=
  Wx.step HE (fun o => o) (fun hx hb _ _ _ _ _ _ k => lv_goto hx hb hd ht k) kk
/-- a branch, out of the kit's row for it -/
theorem Wx.br {P : Prop} {pt pf : Nat} {st2 : List AV} (HE : XE G X cc nL own fr lc h0) (hs : (∀ v ∈ st, okv v) → (∀ v ∈ st2, okv v))
    (hw : ∀ {p : Program} {l : Launch} {e : Env} {R : Room} {s : State} {m : MethodId} {args : Array Value} {below : List Frame} {meth : Method} {c : Code} {H : Heap} {locs : List Loc} {ls : Array Slot} {cells slots : Nat} {Q' : State → Prop}, p.tables.exec = Jvm.exec → c.code = cc → (∀ v ∈ st, okv v) → (P → W p l e R s m args below meth c H locs cells slots Q' (F0 m pt ls (st2.map cv))) → (¬ P → W p l e R s m args below meth c H locs cells slots Q' (F0 m pf ls (st2.map cv))) → W p l e R s m args below meth c H locs cells slots Q' (F0 m pc ls (st.map cv)))
    (kt : P → Wx G X h0 Q h pt lo st2) (kf : ¬ P → Wx G X h0 Q h pf lo st2) : Wx G X h0 Q h pc lo st := by
  obtain ⟨p, l, e, R, s, m, args, below, meth, c⟩ := X
  obtain ⟨hx, hb, -⟩ := HE
  intro H locs ls cells slots ho hst hE hR hL hl
  exact hw hx hb hst (fun q => kt q H locs ls cells slots ho (hs hst) hE hR hL hl) (fun q => kf q H locs ls cells slots ho (hs hst) hE hR hL hl)
theorem x_if_eq (HE : XE G X cc nL own fr lc h0) {x off : Int} (tgt : Nat) (hd : decode cc pc = .ok (.ifCond .eq off, 3)) (ht : (pc : Int) + off = (tgt : Int)) (kt : x = 0 → Wx G X h0 Q h tgt lo st) (kf : x ≠ 0 → Wx G X h0 Q h (pc + 3) lo st) : Wx G X h0 Q h pc lo (iV x :: st) :=
  Wx.br (P := x = 0) HE okd (fun hx hb o a b => lv_if_eq hx hb hd ht (fun q => a ((i32_eq (okt o) i32_0).mp q)) (fun q => b (fun e => q ((i32_eq (okt o) i32_0).mpr e)))) kt kf
theorem x_if_ne (HE : XE G X cc nL own fr lc h0) {x off : Int} (tgt : Nat) (hd : decode cc pc = .ok (.ifCond .ne off, 3)) (ht : (pc : Int) + off = (tgt : Int)) (kt : x ≠ 0 → Wx G X h0 Q h tgt lo st) (kf : x = 0 → Wx G X h0 Q h (pc + 3) lo st) : Wx G X h0 Q h pc lo (iV x :: st) :=
  Wx.br (P := x ≠ 0) HE okd (fun hx hb o a b => lv_if_ne hx hb hd ht (fun q => a (fun e => q ((i32_eq (okt o) i32_0).mpr e))) (fun q => b (fun n => n ((i32_eq (okt o) i32_0).mp q)))) kt (fun n => kf (Decidable.not_not.mp n))
theorem x_if_lt (HE : XE G X cc nL own fr lc h0) {x off : Int} (tgt : Nat) (hd : decode cc pc = .ok (.ifCond .lt off, 3)) (ht : (pc : Int) + off = (tgt : Int)) (kt : x < 0 → Wx G X h0 Q h tgt lo st) (kf : 0 ≤ x → Wx G X h0 Q h (pc + 3) lo st) : Wx G X h0 Q h pc lo (iV x :: st) :=
  Wx.br (P := x < 0) HE okd (fun hx hb o a b => lv_if_lt hx hb hd ht (fun q => a ((i32_lt (okt o) i32_0).mp q)) (fun q => b (fun e => q ((i32_lt (okt o) i32_0).mpr e)))) kt (fun n => kf (Int.not_lt.mp n))
theorem x_if_ge (HE : XE G X cc nL own fr lc h0) {x off : Int} (tgt : Nat) (hd : decode cc pc = .ok (.ifCond .ge off, 3)) (ht : (pc : Int) + off = (tgt : Int)) (kt : 0 ≤ x → Wx G X h0 Q h tgt lo st) (kf : x < 0 → Wx G X h0 Q h (pc + 3) lo st) : Wx G X h0 Q h pc lo (iV x :: st) :=
  Wx.br (P := 0 ≤ x) HE okd (fun hx hb o a b => lv_if_ge hx hb hd ht (fun q => a ((i32_le i32_0 (okt o)).mp q)) (fun q => b (fun e => q ((i32_le i32_0 (okt o)).mpr e)))) kt (fun n => kf (Int.not_le.mp n))
theorem x_if_gt (HE : XE G X cc nL own fr lc h0) {x off : Int} (tgt : Nat) (hd : decode cc pc = .ok (.ifCond .gt off, 3)) (ht : (pc : Int) + off = (tgt : Int)) (kt : 0 < x → Wx G X h0 Q h tgt lo st) (kf : x ≤ 0 → Wx G X h0 Q h (pc + 3) lo st) : Wx G X h0 Q h pc lo (iV x :: st) :=
  Wx.br (P := 0 < x) HE okd (fun hx hb o a b => lv_if_gt hx hb hd ht (fun q => a ((i32_lt i32_0 (okt o)).mp q)) (fun q => b (fun e => q ((i32_lt i32_0 (okt o)).mpr e)))) kt (fun n => kf (Int.not_lt.mp n))
theorem x_if_le (HE : XE G X cc nL own fr lc h0) {x off : Int} (tgt : Nat) (hd : decode cc pc = .ok (.ifCond .le off, 3)) (ht : (pc : Int) + off = (tgt : Int)) (kt : x ≤ 0 → Wx G X h0 Q h tgt lo st) (kf : 0 < x → Wx G X h0 Q h (pc + 3) lo st) : Wx G X h0 Q h pc lo (iV x :: st) :=
  Wx.br (P := x ≤ 0) HE okd (fun hx hb o a b => lv_if_le hx hb hd ht (fun q => a ((i32_le (okt o) i32_0).mp q)) (fun q => b (fun e => q ((i32_le (okt o) i32_0).mpr e)))) kt (fun n => kf (Int.not_le.mp n))
theorem x_ic_eq (HE : XE G X cc nL own fr lc h0) {x y off : Int} (tgt : Nat) (hd : decode cc pc = .ok (.if_icmp .eq off, 3)) (ht : (pc : Int) + off = (tgt : Int)) (kt : x = y → Wx G X h0 Q h tgt lo st) (kf : x ≠ y → Wx G X h0 Q h (pc + 3) lo st) : Wx G X h0 Q h pc lo (iV y :: iV x :: st) :=
  Wx.br (P := x = y) HE (fun o => okd (okd o)) (fun hx hb o a b => lv_icmp_eq hx hb hd ht (fun q => a ((i32_eq (okt (okd o)) (okt o)).mp q)) (fun q => b (fun e => q ((i32_eq (okt (okd o)) (okt o)).mpr e)))) kt kf
theorem x_ic_ne (HE : XE G X cc nL own fr lc h0) {x y off : Int} (tgt : Nat) (hd : decode cc pc = .ok (.if_icmp .ne off, 3)) (ht : (pc : Int) + off = (tgt : Int)) (kt : x ≠ y → Wx G X h0 Q h tgt lo st) (kf : x = y → Wx G X h0 Q h (pc + 3) lo st) : Wx G X h0 Q h pc lo (iV y :: iV x :: st) :=
  Wx.br (P := x ≠ y) HE (fun o => okd (okd o)) (fun hx hb o a b => lv_icmp_ne hx hb hd ht (fun q => a (fun e => q ((i32_eq (okt (okd o)) (okt o)).mpr e))) (fun q => b (fun n => n ((i32_eq (okt (okd o)) (okt o)).mp q)))) kt (fun n => kf (Decidable.not_not.mp n))
theorem x_ic_lt (HE : XE G X cc nL own fr lc h0) {x y off : Int} (tgt : Nat) (hd : decode cc pc = .ok (.if_icmp .lt off, 3)) (ht : (pc : Int) + off = (tgt : Int)) (kt : x < y → Wx G X h0 Q h tgt lo st) (kf : y ≤ x → Wx G X h0 Q h (pc + 3) lo st) : Wx G X h0 Q h pc lo (iV y :: iV x :: st) :=
  Wx.br (P := x < y) HE (fun o => okd (okd o)) (fun hx hb o a b => lv_icmp_lt hx hb hd ht (fun q => a ((i32_lt (okt (okd o)) (okt o)).mp q)) (fun q => b (fun e => q ((i32_lt (okt (okd o)) (okt o)).mpr e)))) kt (fun n => kf (Int.not_lt.mp n))
theorem x_ic_ge (HE : XE G X cc nL own fr lc h0) {x y off : Int} (tgt : Nat) (hd : decode cc pc = .ok (.if_icmp .ge off, 3)) (ht : (pc : Int) + off = (tgt : Int)) (kt : y ≤ x → Wx G X h0 Q h tgt lo st) (kf : x < y → Wx G X h0 Q h (pc + 3) lo st) : Wx G X h0 Q h pc lo (iV y :: iV x :: st) :=
  Wx.br (P := y ≤ x) HE (fun o => okd (okd o)) (fun hx hb o a b => lv_icmp_ge hx hb hd ht (fun q => a ((i32_le (okt o) (okt (okd o))).mp q)) (fun q => b (fun e => q ((i32_le (okt o) (okt (okd o))).mpr e)))) kt (fun n => kf (Int.not_le.mp n))
theorem x_ic_gt (HE : XE G X cc nL own fr lc h0) {x y off : Int} (tgt : Nat) (hd : decode cc pc = .ok (.if_icmp .gt off, 3)) (ht : (pc : Int) + off = (tgt : Int)) (kt : y < x → Wx G X h0 Q h tgt lo st) (kf : x ≤ y → Wx G X h0 Q h (pc + 3) lo st) : Wx G X h0 Q h pc lo (iV y :: iV x :: st) :=
  Wx.br (P := y < x) HE (fun o => okd (okd o)) (fun hx hb o a b => lv_icmp_gt hx hb hd ht (fun q => a ((i32_lt (okt o) (okt (okd o))).mp q)) (fun q => b (fun e => q ((i32_lt (okt o) (okt (okd o))).mpr e)))) kt (fun n => kf (Int.not_lt.mp n))
theorem x_ic_le (HE : XE G X cc nL own fr lc h0) {x y off : Int} (tgt : Nat) (hd : decode cc pc = .ok (.if_icmp .le off, 3)) (ht : (pc : Int) + off = (tgt : Int)) (kt : x ≤ y → Wx G X h0 Q h tgt lo st) (kf : y < x → Wx G X h0 Q h (pc + 3) lo st) : Wx G X h0 Q h pc lo (iV y :: iV x :: st) :=
  Wx.br (P := x ≤ y) HE (fun o => okd (okd o)) (fun hx hb o a b => lv_icmp_le hx hb hd ht (fun q => a ((i32_le (okt (okd o)) (okt o)).mp q)) (fun q => b (fun e => q ((i32_le (okt (okd o)) (okt o)).mpr e)))) kt (fun n => kf (Int.not_le.mp n))
theorem x_ifnull (HE : XE G X cc nL own fr lc h0) {a off : Int} (tgt : Nat) (hd : decode cc pc = .ok (.ifnull off, 3)) (ht : (pc : Int) + off = (tgt : Int)) (kt : a = 0 → Wx G X h0 Q h tgt lo st) (kf : 0 < a → Wx G X h0 Q h (pc + 3) lo st) : Wx G X h0 Q h pc lo (rV a :: st) := by
  refine Wx.start (fun _ => ?_)
  have hpos : okv (rV a) → 0 ≤ a := fun o => o
  obtain ⟨p, l, e, R, s, m, args, below, meth, c⟩ := X
  obtain ⟨hx, hb, -⟩ := HE
  intro H locs ls cells slots ho hst hE hR hL hl
  have h2 := hpos (okt hst)
  show W p l e R s m args below meth c H locs cells slots _ (F0 m pc ls (rv a :: st.map cv))
  unfold rv
  by_cases q : a ≤ 0
  · rw [if_pos q]
    exact lv_ifnullN hx hb hd ht (kt (by omega) H locs ls cells slots ho (okd hst) hE hR hL hl)
  · rw [if_neg q]
    exact lv_ifnull hx hb hd (kf (by omega) H locs ls cells slots ho (okd hst) hE hR hL hl)
theorem x_ifnonnull (HE : XE G X cc nL own fr lc h0) {a off : Int} (tgt : Nat) (hd : decode cc pc = .ok (.ifnonnull off, 3)) (ht : (pc : Int) + off = (tgt : Int)) (kt : 0 < a → Wx G X h0 Q h tgt lo st) (kf : a = 0 → Wx G X h0 Q h (pc + 3) lo st) : Wx G X h0 Q h pc lo (rV a :: st) := by
  have hpos : okv (rV a) → 0 ≤ a := fun o => o
  obtain ⟨p, l, e, R, s, m, args, below, meth, c⟩ := X
  obtain ⟨hx, hb, -⟩ := HE
  intro H locs ls cells slots ho hst hE hR hL hl
  have h2 := hpos (okt hst)
  show W p l e R s m args below meth c H locs cells slots _ (F0 m pc ls (rv a :: st.map cv))
  unfold rv
  by_cases q : a ≤ 0
  · rw [if_pos q]
    exact lv_ifnonnullN hx hb hd (kf (by omega) H locs ls cells slots ho (okd hst) hE hR hL hl)
  · rw [if_neg q]
    exact lv_ifnonnull hx hb hd ht (kt (by omega) H locs ls cells slots ho (okd hst) hE hR hL hl)
theorem rv_rf {a : Int} (h : 0 ≤ a) : rv a = va_rf (if a = 0 then none else some (a - 1).toNat) := by
  unfold rv
  by_cases q : a = 0
  · rw [if_pos (by omega), if_pos q]; rfl
  · rw [if_neg (by omega), if_neg q]; rfl
theorem rf_eq {a b : Int} (ha : 0 ≤ a) (hb : 0 ≤ b) : ((if a = 0 then none else some (a - 1).toNat) = (if b = 0 then none else some (b - 1).toNat)) ↔ a = b := by
  by_cases q : a = 0 <;> by_cases r : b = 0
  · simp [q, r]
  · simp [q, r]; omega
  · simp [q, r]
  · simp only [if_neg q, if_neg r, Option.some.injEq]; omega
theorem x_ac_eq (HE : XE G X cc nL own fr lc h0) {a b off : Int} (tgt : Nat) (hd : decode cc pc = .ok (.if_acmp .eq off, 3)) (ht : (pc : Int) + off = (tgt : Int)) (kt : a = b → Wx G X h0 Q h tgt lo st) (kf : a ≠ b → Wx G X h0 Q h (pc + 3) lo st) : Wx G X h0 Q h pc lo (rV b :: rV a :: st) :=
  Wx.br (P := a = b) HE (fun o => okd (okd o)) (fun hx hb2 o u v => by
    have h1 : 0 ≤ b := okt o
    have h2 : 0 ≤ a := okt (okd o)
    simp only [List.map_cons, cv]
    rw [rv_rf h1, rv_rf h2]
    exact lv_acmp_eq hx hb2 hd ht (fun q => u ((rf_eq h2 h1).mp q)) (fun q => v (fun z => q ((rf_eq h2 h1).mpr z)))) kt kf
theorem x_ac_ne (HE : XE G X cc nL own fr lc h0) {a b off : Int} (tgt : Nat) (hd : decode cc pc = .ok (.if_acmp .ne off, 3)) (ht : (pc : Int) + off = (tgt : Int)) (kt : a ≠ b → Wx G X h0 Q h tgt lo st) (kf : a = b → Wx G X h0 Q h (pc + 3) lo st) : Wx G X h0 Q h pc lo (rV b :: rV a :: st) :=
  Wx.br (P := a ≠ b) HE (fun o => okd (okd o)) (fun hx hb2 o u v => by
    have h1 : 0 ≤ b := okt o
    have h2 : 0 ≤ a := okt (okd o)
    simp only [List.map_cons, cv]
    rw [rv_rf h1, rv_rf h2]
    exact lv_acmp_ne hx hb2 hd ht (fun q => u (fun z => q ((rf_eq h2 h1).mpr z))) (fun q => v (fun z => z ((rf_eq h2 h1).mp q)))) kt (fun n => kf (Decidable.not_not.mp n))
theorem x_tabOut (HE : XE G X cc nL own fr lc h0) {dflt lo1 hi1 x : Int} {offs : Array Int} {len : Nat} (tgt : Nat) (hd : decode cc pc = .ok (.tableswitch dflt lo1 hi1 offs, len)) (hx2 : x < lo1 ∨ hi1 < x) (ht : (pc : Int) + dflt = (tgt : Int)) (kk : Wx G X h0 Q h tgt lo st) : Wx G X h0 Q h pc lo (iV x :: st) :=
  Wx.step HE okd (fun hx hb _ _ _ _ o _ k => lv_tableOut hx hb hd (by rw [i32_toInt (okt o)]; exact hx2) ht k) kk
theorem x_tabIn (HE : XE G X cc nL own fr lc h0) {dflt lo1 hi1 x : Int} {offs : Array Int} {len : Nat} {off : Int} (tgt : Nat) (hd : decode cc pc = .ok (.tableswitch dflt lo1 hi1 offs, len)) (n : Int) (hxn : x = n) (h1 : lo1 ≤ n ∧ n ≤ hi1) (ho : offs[(n - lo1).toNat]? = some off) (ht : (pc : Int) + off = (tgt : Int)) (kk : Wx G X h0 Q h tgt lo st) : Wx G X h0 Q h pc lo (iV x :: st) := by
  subst hxn
  exact Wx.step HE okd (fun hx hb _ _ _ _ o _ k => lv_tableIn hx hb hd (by rw [i32_toInt (okt o)]; omega) (by rw [i32_toInt (okt o)]; omega) (by rw [i32_toInt (okt o)]; exact ho) ht k) kk
theorem x_lookup (HE : XE G X cc nL own fr lc h0) {dflt x : Int} {ps : Array (Int × Int)} {len : Nat} {off : Int} (tgt : Nat) (hd : decode cc pc = .ok (.lookupswitch dflt ps, len)) (hp : (ps.toList.zip (ps.toList.drop 1)).all (fun (a, next) => a.1 < next.1) = true) (ho : Op.lookupswitch.offset ps.toList dflt x = off) (ht : (pc : Int) + off = (tgt : Int)) (kk : Wx G X h0 Q h tgt lo st) : Wx G X h0 Q h pc lo (iV x :: st) :=
  Wx.step HE okd (fun hx hb _ _ _ _ o _ k => lv_lookup hx hb hd hp (by rw [i32_toInt (okt o)]; exact ho) ht k) kk
end ROWS
