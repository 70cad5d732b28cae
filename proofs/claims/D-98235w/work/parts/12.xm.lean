/-! a contract out of its walk; how the abstract heap follows a store or a new cell -/
theorem lv_args_at {As : List AV} (hok : ∀ v ∈ As, okl v) : ∀ (o i : Nat) (v : AV), As[i]? = some v → (o + i, cv v) ∈ lv_args o (As.map cv) := by
  induction As with
  | nil => intro o i v h; simp at h
  | cons a As ih =>
    intro o i v h
    have hc : ¬ (cv a).category = 2 := by
      have h1 := hok a List.mem_cons_self
      rcases a with x | x | x
      · simp [cv, Value.category]
      · simp only [cv, rv]; split <;> simp [Value.category]
      · exact absurd h1 (by simp [okl])
    rw [List.map_cons]
    unfold lv_args
    rw [if_neg hc]
    cases i with
    | zero =>
      simp at h
      subst h
      exact List.mem_cons_self
    | succ i =>
      rw [List.getElem?_cons_succ] at h
      have h2 := ih (fun w hw => hok w (List.mem_cons_of_mem _ hw)) (o + 1) i v h
      rw [show o + (i + 1) = o + 1 + i by omega]
      exact List.mem_cons_of_mem _ h2
theorem lg_sl_len {As : List AV} (hok : ∀ v ∈ As, okl v) : (lg_sl (As.map cv)).length = As.length := by
  induction As with
  | nil => rfl
  | cons a As ih =>
    have hc : ¬ (cv a).category = 2 := by
      have h1 := hok a List.mem_cons_self
      rcases a with x | x | x
      · simp [cv, Value.category]
      · simp only [cv, rv]; split <;> simp [Value.category]
      · exact absurd h1 (by simp [okl])
    have h2 := ih (fun w hw => hok w (List.mem_cons_of_mem _ hw))
    unfold lg_sl at h2 ⊢
    rw [List.map_cons, List.flatMap_cons, if_neg hc, List.length_append, h2]
    simp only [List.length_cons, List.length_nil]
    omega
/-- the locals at a method's entry -/
def xlo (As : List AV) (n : Nat) : List (Option AV) := As.map some ++ List.replicate (n - As.length) none
theorem XM.of {G : GT} {l : Launch} {y : MethodName} {cc : ByteArray} {nL : Nat} {ret : Option FieldType} {fr lc : Nat} {As : List AV} {Q : Option AV → Hp → Prop} {h : Hp} (hy : plainName y.cls = true) (hlen : As.length ≤ nL)
    (body : ∀ X : ET, XE G X cc nL y.cls fr lc h → XR X ret → XN X y.name → Wx G X h Q h 0 (xlo As nL) []) : XM G l y cc nL ret fr lc As Q h := by
  refine Met.ofW (cc := cc) (maxL := nL) (ret := ret) hy rfl ?_
  intro p e s m args below meth c s₁ B hml hv
  obtain ⟨rfl, hok, hR, hK⟩ := hv
  have hts := atoms_spec (ws := ws_ y cc nL ret) B.pre
  have hts : ∀ w ∈ lw_all, w.before _ s = true := fun w h => hts w (List.mem_cons_of_mem _ h)
  have hown : s.vm.findClass y.cls = some m.cls := findClass_of_methodNamed B.named
  have hin : meth.name = y.name := (name_of_methodNamed B.named B.method).1
  have hll := lg_sl_len hok
  have hl := lv_entry (As.map cv) (n := nL) (by rw [hll]; exact hlen)
  rw [lg_entry_eq]
  generalize (lg_sl (As.map cv) ++ List.replicate (nL - (lg_sl (As.map cv)).length) Slot.unset).toArray = ls at hl ⊢
  refine body (p, l, e, _, s, m, _, below, meth, c) ⟨B.exec, B.bytes, hml, hown, hts, B.notSynchronized, hK, hR, rfl, rfl, rfl, rfl⟩ B.returns hin s.heap [] ls 0 0 ?_ (fun v hv => by cases hv) (Ext.rf h) hR (fun q hq => by cases hq) ?_
  · intro v hv
    unfold xlo at hv
    rcases List.mem_append.mp hv with h1 | h1
    · obtain ⟨w, hw, e⟩ := List.mem_map.mp h1
      cases e
      exact hok v hw
    · have := (List.mem_replicate.mp h1).2
      cases this
  · refine ⟨?_, hl.2.1, fun i v hv => ?_⟩
    · rw [hl.1]; unfold xlo; simp; omega
    · unfold xlo at hv
      have hi : As[i]? = some v := by
        by_cases q : i < As.length
        · rw [List.getElem?_append_left (by simpa using q), List.getElem?_map] at hv
          cases e : As[i]? with
          | none => rw [e] at hv; simp at hv
          | some w => rw [e] at hv; simp at hv; rw [hv]
        · rw [List.getElem?_append_right (by simpa using q), List.getElem?_replicate] at hv
          split at hv <;> simp at hv
      have h3 := hl.2.2 _ (lv_args_at hok 0 i v hi)
      simpa using h3
theorem rel_addr {a b : Int} (ha : 1 ≤ a) (hb : 1 ≤ b) (h : b ≠ a) : (b - 1).toNat ≠ (a - 1).toNat := by omega
theorem CellOK.lt {G : GT} {h : Hp} {a : Int} {H : Heap} (hc : CellOK G h a H) : (a - 1).toNat < H.size := by
  by_cases ht : hT h a < 9
  · exact (Array.getElem?_eq_some_iff.mp (hc.1 ht)).1
  · obtain ⟨r, -, cell, h1, -⟩ := hc.2 (by omega)
    exact (Array.getElem?_eq_some_iff.mp h1).1
theorem CellOK.kept {G : GT} {h h' : Hp} {a : Int} {H H' : Heap} (hc : CellOK G h a H) (hq : H'[(a - 1).toNat]? = H[(a - 1).toNat]?) (eT : hT h' a = hT h a) (eL : hL h' a = hL h a) (eF : hF h' a = hF h a) (eA : hA h' a = hA h a) : CellOK G h' a H' := by
  unfold CellOK at hc ⊢
  rw [eT, eL, eF, eA]
  refine ⟨fun ht => hq.trans (hc.1 ht), fun ht => ?_⟩
  obtain ⟨r, h1, h2⟩ := hc.2 ht
  exact ⟨r, h1, h2.kept hq⟩
/-- one cell has changed its slots -/
theorem Rel.upd {G : GT} {h h' : Hp} {a : Int} {H H' : Heap} (hR : Rel G H h) (h0 : hT h a ≠ 0) (hro : ¬ roT (hT h a)) (eT : hT h' = hT h) (eL : hL h' = hL h) (eN : hN h' = hN h) (eS : hS h' = hS h)
    (eb : ∀ b, b ≠ a → hF h' b = hF h b ∧ hA h' b = hA h b) (okF : ∀ k, kok (kt (vwTy (tcls (hT h a)) k)) (hF h' a k)) (okA : ∀ j, kok (ekind (hT h a)) (hA h' a j)) (hc : CellOK G h' a H') (hs : H'.size = H.size) (hq : ∀ q, q ≠ (a - 1).toNat → H'[q]? = H[q]?) (hz : (H'[(a - 1).toNat]?).map (fun c : Cell => c.slots.size) = (H[(a - 1).toNat]?).map (fun c : Cell => c.slots.size)) : Rel G H' h' := by
  obtain ⟨⟨⟨w0, w1⟩, w2⟩, r1, r2, r3, r4, r5, r6, r7, r8, r9⟩ := hR
  have ha := w1 a h0
  have hown : (G.1.size : Int) < a := by
    rcases (w2 a h0).2.2.2 with q | q
    · exact absurd q hro
    · exact q
  have hne0 : (0 : Int) ≠ a := by omega
  refine ⟨⟨⟨by rw [eT]; exact w0, fun b hb => by rw [eN]; exact w1 b (by rw [← eT]; exact hb)⟩, fun b hb => ?_⟩, by rw [eN, hs]; exact r1, ?_, by rw [hs]; exact r3, by rw [eN]; exact r4, by rw [eS]; exact r5, by rw [(eb 0 hne0).1]; exact r6, fun k => by rw [(eb 0 hne0).1]; exact r7 k, fun b hb => ?_, fun q hlt => ?_⟩
  · rw [eT] at hb ⊢
    rw [eL]
    by_cases e : b = a
    · subst e
      exact ⟨(w2 b hb).1, okF, okA, (w2 b hb).2.2.2⟩
    · rw [(eb b e).1, (eb b e).2]
      exact w2 b hb
  · rw [eS, ← r2, hsum_congr hs (fun q => ?_)]
    by_cases e : q = (a - 1).toNat
    · rw [e]; exact hz
    · rw [hq q e]
  · rw [eT] at hb
    by_cases e : b = a
    · subst e; exact hc
    · exact (r8 b hb).kept (hq _ (rel_addr ha.1 (w1 b hb).1 e)) (by rw [eT]) (by rw [eL]) (eb b e).1 (eb b e).2
  · rw [hq q (by omega)]
    exact r9 q hlt
/-- a new cell behind all others -/
theorem Rel.push {G : GT} {h h' : Hp} {t len n : Int} {H H' : Heap} {x : Cell} (hR : Rel G H h) (hh : h' = alloc h t len n) (hH : H' = H.push x) (hcap : capOK h n) (hn : n = (x.slots.size : Int)) (hlen : 0 ≤ len ∧ len ≤ 2147483647) (hnt : ¬ roT t) (hc : CellOK G h' (hN h) H') (okF : ∀ k, kok (kt (vwTy (tcls t) k)) 0) (okA : kok (ekind t) 0) : Rel G H' h' := by
  obtain ⟨⟨⟨w0, w1⟩, w2⟩, r1, r2, r3, r4, r5, r6, r7, r8, r9⟩ := hR
  subst hh
  subst hH
  have hp : 1 ≤ hN h := by omega
  have hne : ∀ b, hT h b ≠ 0 → b ≠ hN h := fun b hb e => by have := (w1 b hb).2; omega
  have hT' : ∀ b, hT (alloc h t len n) b = if b = hN h then t else hT h b := fun _ => rfl
  have hold : ∀ q : Nat, q < H.size → (H.push x)[q]? = H[q]? := fun q hq => by rw [Array.getElem?_push, if_neg (Nat.ne_of_lt hq)]
  refine ⟨⟨⟨?_, fun b hb => ?_⟩, fun b hb => ?_⟩, ?_, ?_, ?_, ?_, ?_, ?_, fun k => ?_, fun b hb => ?_, fun q hlt => ?_⟩
  · rw [hT', if_neg (by omega)]; exact w0
  · show 1 ≤ b ∧ b < hN h + 1
    rw [hT'] at hb
    by_cases e : b = hN h
    · omega
    · rw [if_neg e] at hb
      have := w1 b hb
      omega
  · rw [hT'] at hb ⊢
    show (0 ≤ (if b = hN h then len else hL h b) ∧ (if b = hN h then len else hL h b) ≤ 2147483647) ∧ (∀ k, kok _ (if b = hN h then 0 else hF h b k)) ∧ (∀ j, kok _ (if b = hN h then 0 else hA h b j)) ∧ _
    by_cases e : b = hN h
    · simp only [if_pos e]
      exact ⟨hlen, okF, fun _ => okA, Or.inr (by omega)⟩
    · rw [if_neg e] at hb
      simp only [if_neg e]
      exact w2 b hb
  · show hN h + 1 = _
    rw [Array.size_push]; omega
  · rw [hsum_push H x r3]
    show _ = hS h + n
    omega
  · rw [Array.size_push]; omega
  · show hN h + 1 ≤ _
    have := hcap.1
    omega
  · show hS h + n ≤ _
    exact hcap.2
  · show (if (0 : Int) = hN h then 0 else hF h 0 0) = _
    rw [if_neg (by omega)]; exact r6
  · show (if (0 : Int) = hN h then 0 else hF h 0 (k + 1)) = _
    rw [if_neg (by omega)]; exact r7 k
  · rw [hT'] at hb
    by_cases e : b = hN h
    · rw [e]; exact hc
    · rw [if_neg e] at hb
      have hlt := (r8 b hb).lt
      exact (r8 b hb).kept (hold _ hlt) (if_neg e) (if_neg e) (by funext k; exact if_neg e) (by funext k; exact if_neg e)
  · rw [hold q (by omega)]
    exact r9 q hlt
theorem Rel.wfa {G : GT} {h : Hp} {H : Heap} (hR : Rel G H h) : WFa h := hR.1.1
theorem Rel.pos {G : GT} {h : Hp} {H : Heap} (hR : Rel G H h) : 1 ≤ hN h := by have := hR.2.1; omega
