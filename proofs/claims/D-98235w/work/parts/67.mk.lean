/-! LAYER 2: a component's bar is made (the row of steps printed by tools/mk67.py) -/
def barT (k : Nat) : Int := if k = 13 then 3 else if k = 14 then 6 else 1
def barL (k : Nat) : Int := if k ≤ 13 then 10 else if k = 20 then 8 else 4
def BI (h0 : Hp) (a : Int) (i : Nat) (m : Hp) : Prop := (1 ≤ a) ∧ (hN m = a + 1 + i) ∧ (Lo a h0 m) ∧ (hT m a = 13) ∧ (∀ k : Nat, hF m a k = if 2 ≤ k ∧ k < i + 2 then a + ((k : Int) - 1) else 0) ∧ (∀ k : Nat, 1 ≤ k → k ≤ i → hT m (a + k) = barT k ∧ hL m (a + k) = barL k) ∧ (∀ (k : Nat) (j : Int), 1 ≤ k → k ≤ i → hA m (a + k) j = 0) ∧ (hS m ≤ hS h0 + 27 + 10 * i)
theorem BI.pos {h0 : Hp} {a : Int} {i : Nat} {m : Hp} (H : BI h0 a i m) : 1 ≤ a := H.1
theorem BI.nx {h0 : Hp} {a : Int} {i : Nat} {m : Hp} (H : BI h0 a i m) : hN m = a + 1 + i := H.2.1
theorem BI.lo {h0 : Hp} {a : Int} {i : Nat} {m : Hp} (H : BI h0 a i m) : Lo a h0 m := H.2.2.1
theorem BI.tg {h0 : Hp} {a : Int} {i : Nat} {m : Hp} (H : BI h0 a i m) : hT m a = 13 := H.2.2.2.1
theorem BI.fs {h0 : Hp} {a : Int} {i : Nat} {m : Hp} (H : BI h0 a i m) : ∀ k : Nat, hF m a k = if 2 ≤ k ∧ k < i + 2 then a + ((k : Int) - 1) else 0 := H.2.2.2.2.1
theorem BI.ar {h0 : Hp} {a : Int} {i : Nat} {m : Hp} (H : BI h0 a i m) : ∀ k : Nat, 1 ≤ k → k ≤ i → hT m (a + k) = barT k ∧ hL m (a + k) = barL k := H.2.2.2.2.2.1
theorem BI.ze {h0 : Hp} {a : Int} {i : Nat} {m : Hp} (H : BI h0 a i m) : ∀ (k : Nat) (j : Int), 1 ≤ k → k ≤ i → hA m (a + k) j = 0 := H.2.2.2.2.2.2.1
theorem BI.sl {h0 : Hp} {a : Int} {i : Nat} {m : Hp} (H : BI h0 a i m) : hS m ≤ hS h0 + 27 + 10 * i := H.2.2.2.2.2.2.2
theorem BI.step {h0 m m2 m3 : Hp} {a a2 t len n : Int} {i : Nat} (I : BI h0 a i m) (hi : i < 21) (ht : t = barT (i + 1)) (hl : len = barL (i + 1)) (hn : n ≤ 10) (e1 : a2 = hN m) (e2 : m2 = alloc m t len n) (e3 : m3 = setF m2 a (i + 2) a2) : BI h0 a (i + 1) m3 := by
  subst e3; subst e2; subst e1
  have p := I.pos
  have nx := I.nx
  have T : ∀ x : Int, hT (setF (alloc m t len n) a (i + 2) (hN m)) x = if x = hN m then t else hT m x := fun _ => rfl
  have L : ∀ x : Int, hL (setF (alloc m t len n) a (i + 2) (hN m)) x = if x = hN m then len else hL m x := fun _ => rfl
  have A : ∀ x j : Int, hA (setF (alloc m t len n) a (i + 2) (hN m)) x j = if x = hN m then 0 else hA m x j := fun _ _ => rfl
  have Fa : ∀ k : Nat, hF (setF (alloc m t len n) a (i + 2) (hN m)) a k = if a = a ∧ k = i + 2 then hN m else if a = hN m then 0 else hF m a k := fun _ => rfl
  refine ⟨p, ?_, I.lo.tr ((Lo.alloc (by omega)).tr (Lo.setF (Int.le_refl _))), ?_, fun k => ?_, fun k k1 k2 => ?_, fun k j k1 k2 => ?_, ?_⟩
  · show hN m + 1 = _
    omega
  · rw [T, if_neg (by omega)]; exact I.tg
  · rw [Fa]
    by_cases e : k = i + 2
    · rw [if_pos ⟨rfl, e⟩, if_pos (by omega), e]; omega
    · rw [if_neg (fun z => e z.2), if_neg (by omega), I.fs k]
      by_cases z : 2 ≤ k ∧ k < i + 2
      · rw [if_pos z, if_pos (by omega)]
      · rw [if_neg z, if_neg (by omega)]
  · rw [T, L]
    by_cases e : k = i + 1
    · rw [if_pos (by omega), if_pos (by omega), e]; exact ⟨ht, hl⟩
    · rw [if_neg (by omega), if_neg (by omega)]; exact I.ar k k1 (by omega)
  · rw [A]
    by_cases e : k = i + 1
    · rw [if_pos (by omega)]
    · rw [if_neg (by omega)]; exact I.ze k j k1 (by omega)
  · have := I.sl
    show hS m + n ≤ _
    omega
theorem BI.f0 {h0 m : Hp} {a t len n : Int} {i : Nat} (I : BI h0 a i m) {m2 : Hp} (e2 : m2 = alloc m t len n) : hF m2 a (i + 2) = 0 := by
  subst e2
  have nx := I.nx
  show (if a = hN m then 0 else hF m a (i + 2)) = 0
  rw [if_neg (by omega), I.fs, if_neg (by omega)]
theorem BI.cap {h0 m : Hp} {a n : Int} {i : Nat} (I : BI h0 a i m) (hi : i < 21) (hn : n ≤ 10) (ha : a = hN h0) (c1 : hN h0 + 30 ≤ hF h0 0 0 + 1200128) (c2 : hS h0 + 300 ≤ 5501098) : capOK m n := by
  have nx := I.nx
  have sl := I.sl
  have p := I.pos
  have e0 := (I.lo 0 (by omega)).2.2.1
  refine ⟨?_, ?_⟩
  · rw [e0]; omega
  · omega
-- printed from here on by tools/mk67.py
theorem lay21 {m : Hp} {a : Int} (p : 1 ≤ a) (t0 : hT m a = 13) (ar : ∀ k : Nat, 1 ≤ k → k ≤ 21 → hT m (a + k) = barT k ∧ hL m (a + k) = barL k) (F : Nat → Int) (A : Int → Int → Int) (hl : ∀ k : Nat, 2 ≤ k → k ≤ 22 → F k = a + ((k : Int) - 1)) : Lay_X21 (blk m a 21 F A) a := by
  exact ⟨p, t0, ⟨(blk_F 2).trans ((hl 2 (by decide) (by decide)).trans (by omega)), (ar 1 (by decide) (by decide)).1, (ar 1 (by decide) (by decide)).2⟩, ⟨(blk_F 3).trans ((hl 3 (by decide) (by decide)).trans (by omega)), (ar 2 (by decide) (by decide)).1, (ar 2 (by decide) (by decide)).2⟩, ⟨(blk_F 4).trans ((hl 4 (by decide) (by decide)).trans (by omega)), (ar 3 (by decide) (by decide)).1, (ar 3 (by decide) (by decide)).2⟩, ⟨(blk_F 5).trans ((hl 5 (by decide) (by decide)).trans (by omega)), (ar 4 (by decide) (by decide)).1, (ar 4 (by decide) (by decide)).2⟩, ⟨(blk_F 6).trans ((hl 6 (by decide) (by decide)).trans (by omega)), (ar 5 (by decide) (by decide)).1, (ar 5 (by decide) (by decide)).2⟩, ⟨(blk_F 7).trans ((hl 7 (by decide) (by decide)).trans (by omega)), (ar 6 (by decide) (by decide)).1, (ar 6 (by decide) (by decide)).2⟩, ⟨(blk_F 8).trans ((hl 8 (by decide) (by decide)).trans (by omega)), (ar 7 (by decide) (by decide)).1, (ar 7 (by decide) (by decide)).2⟩, ⟨(blk_F 9).trans ((hl 9 (by decide) (by decide)).trans (by omega)), (ar 8 (by decide) (by decide)).1, (ar 8 (by decide) (by decide)).2⟩, ⟨(blk_F 10).trans ((hl 10 (by decide) (by decide)).trans (by omega)), (ar 9 (by decide) (by decide)).1, (ar 9 (by decide) (by decide)).2⟩, ⟨(blk_F 11).trans ((hl 11 (by decide) (by decide)).trans (by omega)), (ar 10 (by decide) (by decide)).1, (ar 10 (by decide) (by decide)).2⟩, ⟨(blk_F 12).trans ((hl 12 (by decide) (by decide)).trans (by omega)), (ar 11 (by decide) (by decide)).1, (ar 11 (by decide) (by decide)).2⟩, ⟨(blk_F 13).trans ((hl 13 (by decide) (by decide)).trans (by omega)), (ar 12 (by decide) (by decide)).1, (ar 12 (by decide) (by decide)).2⟩, ⟨(blk_F 14).trans ((hl 14 (by decide) (by decide)).trans (by omega)), (ar 13 (by decide) (by decide)).1, (ar 13 (by decide) (by decide)).2⟩, ⟨(blk_F 15).trans ((hl 15 (by decide) (by decide)).trans (by omega)), (ar 14 (by decide) (by decide)).1, (ar 14 (by decide) (by decide)).2⟩, ⟨(blk_F 16).trans ((hl 16 (by decide) (by decide)).trans (by omega)), (ar 15 (by decide) (by decide)).1, (ar 15 (by decide) (by decide)).2⟩, ⟨(blk_F 17).trans ((hl 17 (by decide) (by decide)).trans (by omega)), (ar 16 (by decide) (by decide)).1, (ar 16 (by decide) (by decide)).2⟩, ⟨(blk_F 18).trans ((hl 18 (by decide) (by decide)).trans (by omega)), (ar 17 (by decide) (by decide)).1, (ar 17 (by decide) (by decide)).2⟩, ⟨(blk_F 19).trans ((hl 19 (by decide) (by decide)).trans (by omega)), (ar 18 (by decide) (by decide)).1, (ar 18 (by decide) (by decide)).2⟩, ⟨(blk_F 20).trans ((hl 20 (by decide) (by decide)).trans (by omega)), (ar 19 (by decide) (by decide)).1, (ar 19 (by decide) (by decide)).2⟩, ⟨(blk_F 21).trans ((hl 21 (by decide) (by decide)).trans (by omega)), (ar 20 (by decide) (by decide)).1, (ar 20 (by decide) (by decide)).2⟩, ⟨(blk_F 22).trans ((hl 22 (by decide) (by decide)).trans (by omega)), (ar 21 (by decide) (by decide)).1, (ar 21 (by decide) (by decide)).2⟩⟩
section MK
variable {o hb : Int} {r c q : Int → Int} {Qv : Hp → Prop} {Q : Int → Hp → Prop}
theorem c_init0 {h0 m0 : Hp} {a : Int} (I0 : BI h0 a 0 m0) (ha : a = hN h0) (c1 : hN h0 + 30 ≤ hF h0 0 0 + 1200128) (c2 : hS h0 + 300 ≤ 5501098) (H : HouseAt h0 o r hb) (hlo : hb ≤ a)
    (hq : ∀ m : Hp, BI h0 a 21 m → Lp1 (g_X21_init_L192 a o Qv) 0 (blk m a 21 (upN (upN (upN (fun k => hF m a k) 0 o) 1 (r 5)) 26 (r 2)) (fun k j => hA m (a + k) j))) : g_X21_init a o Qv m0 := by
  unfold g_X21_init
  refine ⟨I0.cap (by decide) (by decide) ha c1 c2, ?_⟩
  intro b1 n1 eb1 en1 _
  refine ⟨I0.f0 en1, ?_⟩
  intro m1 em1
  have I1 := I0.step (t := 1) (len := 10) (n := 10) (by decide) rfl rfl (by decide) eb1 en1 em1
  clear en1 em1 eb1
  refine ⟨I1.cap (by decide) (by decide) ha c1 c2, ?_⟩
  intro b2 n2 eb2 en2 _
  refine ⟨I1.f0 en2, ?_⟩
  intro m2 em2
  have I2 := I1.step (t := 1) (len := 10) (n := 10) (by decide) rfl rfl (by decide) eb2 en2 em2
  clear en2 em2 eb2
  refine ⟨I2.cap (by decide) (by decide) ha c1 c2, ?_⟩
  intro b3 n3 eb3 en3 _
  refine ⟨I2.f0 en3, ?_⟩
  intro m3 em3
  have I3 := I2.step (t := 1) (len := 10) (n := 10) (by decide) rfl rfl (by decide) eb3 en3 em3
  clear en3 em3 eb3
  refine ⟨I3.cap (by decide) (by decide) ha c1 c2, ?_⟩
  intro b4 n4 eb4 en4 _
  refine ⟨I3.f0 en4, ?_⟩
  intro m4 em4
  have I4 := I3.step (t := 1) (len := 10) (n := 10) (by decide) rfl rfl (by decide) eb4 en4 em4
  clear en4 em4 eb4
  refine ⟨I4.cap (by decide) (by decide) ha c1 c2, ?_⟩
  intro b5 n5 eb5 en5 _
  refine ⟨I4.f0 en5, ?_⟩
  intro m5 em5
  have I5 := I4.step (t := 1) (len := 10) (n := 10) (by decide) rfl rfl (by decide) eb5 en5 em5
  clear en5 em5 eb5
  refine ⟨I5.cap (by decide) (by decide) ha c1 c2, ?_⟩
  intro b6 n6 eb6 en6 _
  refine ⟨I5.f0 en6, ?_⟩
  intro m6 em6
  have I6 := I5.step (t := 1) (len := 10) (n := 10) (by decide) rfl rfl (by decide) eb6 en6 em6
  clear en6 em6 eb6
  refine ⟨I6.cap (by decide) (by decide) ha c1 c2, ?_⟩
  intro b7 n7 eb7 en7 _
  refine ⟨I6.f0 en7, ?_⟩
  intro m7 em7
  have I7 := I6.step (t := 1) (len := 10) (n := 10) (by decide) rfl rfl (by decide) eb7 en7 em7
  clear en7 em7 eb7
  refine ⟨I7.cap (by decide) (by decide) ha c1 c2, ?_⟩
  intro b8 n8 eb8 en8 _
  refine ⟨I7.f0 en8, ?_⟩
  intro m8 em8
  have I8 := I7.step (t := 1) (len := 10) (n := 10) (by decide) rfl rfl (by decide) eb8 en8 em8
  clear en8 em8 eb8
  refine ⟨I8.cap (by decide) (by decide) ha c1 c2, ?_⟩
  intro b9 n9 eb9 en9 _
  refine ⟨I8.f0 en9, ?_⟩
  intro m9 em9
  have I9 := I8.step (t := 1) (len := 10) (n := 10) (by decide) rfl rfl (by decide) eb9 en9 em9
  clear en9 em9 eb9
  refine ⟨I9.cap (by decide) (by decide) ha c1 c2, ?_⟩
  intro b10 n10 eb10 en10 _
  refine ⟨I9.f0 en10, ?_⟩
  intro m10 em10
  have I10 := I9.step (t := 1) (len := 10) (n := 10) (by decide) rfl rfl (by decide) eb10 en10 em10
  clear en10 em10 eb10
  refine ⟨I10.cap (by decide) (by decide) ha c1 c2, ?_⟩
  intro b11 n11 eb11 en11 _
  refine ⟨I10.f0 en11, ?_⟩
  intro m11 em11
  have I11 := I10.step (t := 1) (len := 10) (n := 10) (by decide) rfl rfl (by decide) eb11 en11 em11
  clear en11 em11 eb11
  refine ⟨I11.cap (by decide) (by decide) ha c1 c2, ?_⟩
  intro b12 n12 eb12 en12 _
  refine ⟨I11.f0 en12, ?_⟩
  intro m12 em12
  have I12 := I11.step (t := 1) (len := 10) (n := 10) (by decide) rfl rfl (by decide) eb12 en12 em12
  clear en12 em12 eb12
  refine ⟨I12.cap (by decide) (by decide) ha c1 c2, ?_⟩
  intro b13 n13 eb13 en13 _
  refine ⟨I12.f0 en13, ?_⟩
  intro m13 em13
  have I13 := I12.step (t := 3) (len := 10) (n := 10) (by decide) rfl rfl (by decide) eb13 en13 em13
  clear en13 em13 eb13
  refine ⟨I13.cap (by decide) (by decide) ha c1 c2, ?_⟩
  intro b14 n14 eb14 en14 _
  refine ⟨I13.f0 en14, ?_⟩
  intro m14 em14
  have I14 := I13.step (t := 6) (len := 4) (n := 4) (by decide) rfl rfl (by decide) eb14 en14 em14
  clear en14 em14 eb14
  refine ⟨I14.cap (by decide) (by decide) ha c1 c2, ?_⟩
  intro b15 n15 eb15 en15 _
  refine ⟨I14.f0 en15, ?_⟩
  intro m15 em15
  have I15 := I14.step (t := 1) (len := 4) (n := 4) (by decide) rfl rfl (by decide) eb15 en15 em15
  clear en15 em15 eb15
  refine ⟨I15.cap (by decide) (by decide) ha c1 c2, ?_⟩
  intro b16 n16 eb16 en16 _
  refine ⟨I15.f0 en16, ?_⟩
  intro m16 em16
  have I16 := I15.step (t := 1) (len := 4) (n := 4) (by decide) rfl rfl (by decide) eb16 en16 em16
  clear en16 em16 eb16
  refine ⟨I16.cap (by decide) (by decide) ha c1 c2, ?_⟩
  intro b17 n17 eb17 en17 _
  refine ⟨I16.f0 en17, ?_⟩
  intro m17 em17
  have I17 := I16.step (t := 1) (len := 4) (n := 4) (by decide) rfl rfl (by decide) eb17 en17 em17
  clear en17 em17 eb17
  refine ⟨I17.cap (by decide) (by decide) ha c1 c2, ?_⟩
  intro b18 n18 eb18 en18 _
  refine ⟨I17.f0 en18, ?_⟩
  intro m18 em18
  have I18 := I17.step (t := 1) (len := 4) (n := 4) (by decide) rfl rfl (by decide) eb18 en18 em18
  clear en18 em18 eb18
  refine ⟨I18.cap (by decide) (by decide) ha c1 c2, ?_⟩
  intro b19 n19 eb19 en19 _
  refine ⟨I18.f0 en19, ?_⟩
  intro m19 em19
  have I19 := I18.step (t := 1) (len := 4) (n := 4) (by decide) rfl rfl (by decide) eb19 en19 em19
  clear en19 em19 eb19
  refine ⟨I19.cap (by decide) (by decide) ha c1 c2, ?_⟩
  intro b20 n20 eb20 en20 _
  refine ⟨I19.f0 en20, ?_⟩
  intro m20 em20
  have I20 := I19.step (t := 1) (len := 8) (n := 8) (by decide) rfl rfl (by decide) eb20 en20 em20
  clear en20 em20 eb20
  refine ⟨I20.cap (by decide) (by decide) ha c1 c2, ?_⟩
  intro b21 n21 eb21 en21 _
  refine ⟨I20.f0 en21, ?_⟩
  intro m21 em21
  have I21 := I20.step (t := 1) (len := 4) (n := 4) (by decide) rfl rfl (by decide) eb21 en21 em21
  clear en21 em21 eb21
  have H1 := H.lo (I21.lo.le hlo)
  refine ⟨by rw [I21.fs 0]; rfl, ?_⟩
  intro m22 em22
  have eb : m21 = blk m21 a 21 (fun k => hF m21 a k) (fun k j => hA m21 (a + k) j) := blk_self
  have q1 := hq m21 I21
  rw [eb, blk_setF] at em22
  have H2 : HouseAt m22 o r hb := by rw [em22]; exact H1.lo (Lo.blk hlo)
  refine ⟨H2.lay, l_size (fun _ => ?_)⟩
  rw [H2.lp.1]
  intro m23 em23
  rw [em22, blk_setF] at em23
  have H3 : HouseAt m23 o r hb := by rw [em23]; exact H1.lo (Lo.blk hlo)
  intro m24 em24
  rw [H3.bell, em23, blk_setF] at em24
  rw [em24]
  exact q1
end MK
