/-! LAYER 2: a bar as an object of the heap (printed by tools/mk69.py) -/
/-- a bar's shell: its arrays, its house, how many people -/
def BS (h : Hp) (b o n : Int) : Prop := (1 ≤ b) ∧ (hT h b = 13) ∧ (∀ k : Nat, 1 ≤ k → k ≤ 21 → hT h (b + k) = barT k ∧ hL h (b + k) = barL k) ∧ (∀ k : Nat, 2 ≤ k → k ≤ 22 → hF h b k = b + ((k : Int) - 1)) ∧ (hF h b 0 = o) ∧ (hF h b 1 = n)
theorem BS.pos {h : Hp} {b o n : Int} (H : BS h b o n) : 1 ≤ b := H.1
theorem BS.tg {h : Hp} {b o n : Int} (H : BS h b o n) : hT h b = 13 := H.2.1
theorem BS.ar {h : Hp} {b o n : Int} (H : BS h b o n) : ∀ k : Nat, 1 ≤ k → k ≤ 21 → hT h (b + k) = barT k ∧ hL h (b + k) = barL k := H.2.2.1
theorem BS.lay {h : Hp} {b o n : Int} (H : BS h b o n) : ∀ k : Nat, 2 ≤ k → k ≤ 22 → hF h b k = b + ((k : Int) - 1) := H.2.2.2.1
theorem BS.house {h : Hp} {b o n : Int} (H : BS h b o n) : hF h b 0 = o := H.2.2.2.2.1
theorem BS.pn {h : Hp} {b o n : Int} (H : BS h b o n) : hF h b 1 = n := H.2.2.2.2.2
abbrev BF (h : Hp) (b : Int) : Nat → Int := fun k => hF h b k
abbrev BA (h : Hp) (b : Int) : Int → Int → Int := fun k j => hA h (b + k) j
/-- a bar that shows a row -/
def BX (h : Hp) (b o : Int) (r c q row : Int → Int) (cm : Nat) (bell : Int) : Prop := (BS h b o (r 5)) ∧ (BR h b o r c q row cm (BF h b) (BA h b)) ∧ (hF h b 26 = bell)
theorem BX.sh {h : Hp} {b o : Int} {r c q row : Int → Int} {cm : Nat} {bell : Int} (H : BX h b o r c q row cm bell) : BS h b o (r 5) := H.1
theorem BX.br {h : Hp} {b o : Int} {r c q row : Int → Int} {cm : Nat} {bell : Int} (H : BX h b o r c q row cm bell) : BR h b o r c q row cm (BF h b) (BA h b) := H.2.1
theorem BX.bl {h : Hp} {b o : Int} {r c q row : Int → Int} {cm : Nat} {bell : Int} (H : BX h b o r c q row cm bell) : hF h b 26 = bell := H.2.2
section B
variable {h h2 : Hp} {b o hb bell n : Int} {r c q row : Int → Int} {cm : Nat} {F F' : Nat → Int} {A A' : Int → Int → Int} {Q : Int → Hp → Prop} {Qv : Hp → Prop} {B : Int}
theorem BR.cg (V : BR h b o r c q row cm F A) (hF1 : ∀ k : Nat, k ≤ 25 → F' k = F k) (hA1 : ∀ k : Int, 1 ≤ k → k ≤ 21 → A' k = A k) (ht : ∀ s : Int, 0 ≤ s → s < cm → hT h2 (A 14 s) = hT h (A 14 s)) (ht2 : ∀ s : Int, 0 ≤ s → s < 4 → 27 ≤ hT h (A 14 s) → hT h2 (A 14 s) = hT h (A 14 s)) : BR h2 b o r c q row cm F' A' := by
  have a : ∀ k : Int, 1 ≤ k → k ≤ 21 → A' k = A k := hA1
  refine ⟨fun k k1 k2 => by rw [hF1 k (by omega)]; exact V.lay k k1 k2, by rw [hF1 0 (by omega)]; exact V.house, by rw [hF1 1 (by omega)]; exact V.pn, by rw [hF1 23 (by omega)]; exact V.sn, by rw [hF1 24 (by omega)]; exact V.now, by rw [hF1 25 (by omega)]; exact V.many, ?_, ?_, ?_, ?_, ?_, ?_, ?_, ?_, ?_, ?_, ?_, ?_, ?_, fun s s1 s2 => ?_, ?_, ?_, ?_, ?_, ?_, ?_, ?_, ?_, fun i i1 i2 => ?_⟩
  · rw [a 1 (by omega) (by omega)]; exact V.does
  · rw [a 2 (by omega) (by omega)]; exact V.place
  · rw [a 3 (by omega) (by omega)]; exact V.look
  · rw [a 4 (by omega) (by omega)]; exact V.says
  · rw [a 5 (by omega) (by omega)]; exact V.shelf
  · rw [a 6 (by omega) (by omega)]; exact V.begun
  · rw [a 7 (by omega) (by omega)]; exact V.whom
  · rw [a 8 (by omega) (by omega)]; exact V.had
  · rw [a 9 (by omega) (by omega)]; exact V.wait
  · rw [a 10 (by omega) (by omega)]; exact V.pass
  · rw [a 11 (by omega) (by omega)]; exact V.push
  · rw [a 12 (by omega) (by omega)]; exact V.served
  · rw [a 13 (by omega) (by omega)]; exact V.reg
  · rw [a 14 (by omega) (by omega), ht s s1 s2]; exact V.rule s s1 s2
  · rw [a 15 (by omega) (by omega)]; exact V.stands
  · rw [a 16 (by omega) (by omega)]; exact V.frm
  · rw [a 17 (by omega) (by omega)]; exact V.til
  · rw [a 18 (by omega) (by omega)]; exact V.step
  · rw [a 19 (by omega) (by omega)]; exact V.hands
  · rw [a 20 (by omega) (by omega)]; exact V.busy
  · rw [a 21 (by omega) (by omega)]; exact V.last
  · rw [a 13 (by omega) (by omega)]; exact V.rg
  · rw [a 14 (by omega) (by omega)]
    rcases V.rl i i1 i2 with z | z
    · exact Or.inl z
    · rw [ht2 i i1 i2 z.1]; exact Or.inr z
theorem BS.blk2 (S : BS h b o n) (F : Nat → Int) (A : Int → Int → Int) (hl : ∀ k : Nat, 2 ≤ k → k ≤ 22 → F k = b + ((k : Int) - 1)) (h0 : F 0 = o) (h1 : F 1 = n) : BS (blk h b 21 F A) b o n :=
  ⟨S.pos, S.tg, S.ar, fun k k1 k2 => by rw [blk_F]; exact hl k k1 k2, by rw [blk_F]; exact h0, by rw [blk_F]; exact h1⟩
theorem BX.at (p : 1 ≤ b) (t : hT h b = 13) (ar : ∀ k : Nat, 1 ≤ k → k ≤ 21 → hT h (b + k) = barT k ∧ hL h (b + k) = barL k) (V : BR h b o r c q row cm F A) (hb2 : F 26 = bell) : BX (blk h b 21 F A) b o r c q row cm bell := by
  refine ⟨⟨p, t, ar, fun k k1 k2 => by rw [blk_F]; exact V.lay k k1 k2, by rw [blk_F]; exact V.house, by rw [blk_F]; exact V.pn⟩, V.cg (fun k _ => blk_F k) (fun k k1 k2 => ?_) (fun _ _ _ => rfl) (fun _ _ _ _ => rfl), by rw [blk_F]; exact hb2⟩
  funext j
  exact blk_A k1 k2 j
theorem BX.be (X : BX h b o r c q row cm bell) (HO : HouseOK r) (H : HouseAt h o r hb) (lo : hb ≤ b) (C : CrewOK c) (P : PplOK q) (qr : ∀ p : Int, 0 ≤ p → p < r 5 → q (7 * p + 2) = r (41 + (7 * p + 2)) ∧ q (7 * p + 4) = r (41 + (7 * p + 4))) (h4 : cm ≤ 4) : BE h b o hb r c q cm :=
  ⟨HO, H, lo, fun F A hl => lay21 X.sh.pos X.sh.tg X.sh.ar F A hl, C, P, qr, h4⟩
/-- nothing of a bar's block is touched -/
def Same (b n : Int) (h h2 : Hp) : Prop := ∀ a : Int, b ≤ a → a ≤ b + n → hT h2 a = hT h a ∧ hL h2 a = hL h a ∧ hF h2 a = hF h a ∧ hA h2 a = hA h a
theorem Same.rf {b n : Int} : Same b n h h := fun _ _ _ => ⟨rfl, rfl, rfl, rfl⟩
theorem Same.blk2 {b n b2 n2 : Int} (hd : b + n < b2 ∨ b2 + n2 < b) (h0 : 0 ≤ n2) : Same b n (blk h b2 n2 F A) (blk h b2 n2 F' A') := fun a a1 a2 => ⟨rfl, rfl, funext (fun k => (blk_Fo (by omega) k).trans (blk_Fo (by omega) k).symm), funext (fun j => (blk_Ao (by omega) j).trans (blk_Ao (by omega) j).symm)⟩
theorem Same.blk1 {b n b2 n2 : Int} (hd : b + n < b2 ∨ b2 + n2 < b) (h0 : 0 ≤ n2) : Same b n h (blk h b2 n2 F A) := fun a a1 a2 => ⟨rfl, rfl, funext (fun k => blk_Fo (by omega) k), funext (fun j => blk_Ao (by omega) j)⟩
theorem Same.lo {b n hb : Int} (L : Lo hb h h2) (hd : b + n < hb) : Same b n h h2 := fun a a1 a2 => L a (by omega)
theorem Same.tr {b n : Int} {h3 : Hp} (x : Same b n h h2) (y : Same b n h2 h3) : Same b n h h3 := fun a a1 a2 => ⟨(y a a1 a2).1.trans (x a a1 a2).1, (y a a1 a2).2.1.trans (x a a1 a2).2.1, (y a a1 a2).2.2.1.trans (x a a1 a2).2.2.1, (y a a1 a2).2.2.2.trans (x a a1 a2).2.2.2⟩
theorem BS.same (S : BS h b o n) (M : Same b 21 h h2) : BS h2 b o n :=
  ⟨S.pos, by rw [(M b (by omega) (by omega)).1]; exact S.tg, fun k k1 k2 => by rw [(M (b + k) (by omega) (by omega)).1, (M (b + k) (by omega) (by omega)).2.1]; exact S.ar k k1 k2, fun k k1 k2 => by rw [(M b (by omega) (by omega)).2.2.1]; exact S.lay k k1 k2, by rw [(M b (by omega) (by omega)).2.2.1]; exact S.house, by rw [(M b (by omega) (by omega)).2.2.1]; exact S.pn⟩
theorem BX.same (X : BX h b o r c q row cm bell) (M : Same b 21 h h2) (ht : ∀ a : Int, hT h a ≠ 0 → hT h2 a = hT h a) : BX h2 b o r c q row cm bell := by
  refine ⟨X.sh.same M, X.br.cg (fun k _ => by show hF h2 b k = hF h b k; rw [(M b (by omega) (by omega)).2.2.1]) (fun k k1 k2 => ?_) (fun s s1 s2 => ht _ ?_) (fun s s1 s2 z => ht _ (by omega)), by rw [(M b (by omega) (by omega)).2.2.1]; exact X.bl⟩
  · show (fun j => hA h2 (b + k) j) = fun j => hA h (b + k) j
    rw [(M (b + k) (by omega) (by omega)).2.2.2]
  · have := X.br.rule s s1 s2
    have := rtag_b (c (6 * s + 0))
    omega
/-- what takes lays -/
def barK (k : Int) : Int := if k ≤ 13 then 10 else if k = 20 then 8 else 4
def tkA (A S : Int → Int → Int) (n : Int) : Int → Int → Int := fun k => if 1 ≤ k ∧ k ≤ n then cpyA (S k) (A k) 0 0 (barK k) else A k
theorem tk_step {x k kp n : Int} (hk : kp + 1 = k) (k1 : 1 ≤ k) (k2 : k ≤ 21) (hn : n = barK k) (hx : x + 21 < b ∨ b + 21 < x) : putA (blk h b 21 F (tkA A (BA h x) kp)) (b + k) (cpyA (hA (blk h b 21 F (tkA A (BA h x) kp)) (x + k)) (hA (blk h b 21 F (tkA A (BA h x) kp)) (b + k)) 0 0 n) = blk h b 21 F (tkA A (BA h x) k) := by
  rw [blk_putA k1 k2]
  have e1 : hA (blk h b 21 F (tkA A (BA h x) kp)) (x + k) = BA h x k := funext (fun j => blk_Ao (by omega) j)
  have e2 : hA (blk h b 21 F (tkA A (BA h x) kp)) (b + k) = A k := by
    funext j
    rw [blk_A k1 k2]
    unfold tkA
    rw [if_neg (by omega)]
  rw [e1, e2, hn]
  congr 1
  funext j
  unfold upR tkA
  by_cases e : j = k
  · rw [if_pos e, if_pos (by omega), e]
  · rw [if_neg e]
    by_cases z : 1 ≤ j ∧ j ≤ kp
    · rw [if_pos z, if_pos (by omega)]
    · rw [if_neg z, if_neg (by omega)]
theorem tk6 {t : Int} (h : 27 ≤ t ∧ t ≤ 31) : ((6 : Int), t) ∈ xTak := by
  have : t = 27 ∨ t = 28 ∨ t = 29 ∨ t = 30 ∨ t = 31 := by omega
  rcases this with z | z | z | z | z <;> rw [z] <;> decide
theorem tkA_0 (S : Int → Int → Int) : tkA A S 0 = A := by
  funext k; unfold tkA; rw [if_neg (by omega)]
theorem tkA_v {S : Int → Int → Int} {k j : Int} (k1 : 1 ≤ k) (k2 : k ≤ 21) (j1 : 0 ≤ j) (j2 : j < barK k) : tkA A S 21 k j = S k j := by
  unfold tkA
  rw [if_pos ⟨k1, k2⟩]
  unfold cpyA
  rw [if_pos ⟨j1, by omega⟩, show 0 + (j - 0) = j by omega]
theorem c_takes {x : Int} (hx : x + 21 < b ∨ b + 21 < x) (LX : Lay_X21 (blk h b 21 F A) x) (rg : ∀ i : Int, 0 ≤ i → i < 10 → BA h x 13 i = 0 ∨ BA h x 13 i = 1) (rl : ∀ i : Int, 0 ≤ i → i < 4 → BA h x 14 i = 0 ∨ (27 ≤ hT h (BA h x 14 i) ∧ hT h (BA h x 14 i) ≤ 31))
    (hq : Qv (blk h b 21 (upN (upN (upN (upN F 23 (hF h x 23)) 24 (hF h x 24)) 25 (hF h x 25)) 26 (hF h x 26)) (tkA A (BA h x) 21))) : g_X21_takes b x Qv (blk h b 21 F A) := by
  have hne : x ≠ b := by omega
  unfold g_X21_takes
  refine ⟨LX, ?_⟩
  rw [show blk h b 21 F A = blk h b 21 F (tkA A (BA h x) 0) by rw [tkA_0]]
  refine ⟨by omega, by omega, by omega, ?_⟩
  intro m1 em1
  rw [tk_step (k := 1) (kp := 0) (by decide) (by decide) (by decide) (by decide) hx] at em1
  subst em1
  refine ⟨by omega, by omega, by omega, ?_⟩
  intro m2 em2
  rw [tk_step (k := 2) (kp := 1) (by decide) (by decide) (by decide) (by decide) hx] at em2
  subst em2
  refine ⟨by omega, by omega, by omega, ?_⟩
  intro m3 em3
  rw [tk_step (k := 3) (kp := 2) (by decide) (by decide) (by decide) (by decide) hx] at em3
  subst em3
  refine ⟨by omega, by omega, by omega, ?_⟩
  intro m4 em4
  rw [tk_step (k := 4) (kp := 3) (by decide) (by decide) (by decide) (by decide) hx] at em4
  subst em4
  refine ⟨by omega, by omega, by omega, ?_⟩
  intro m5 em5
  rw [tk_step (k := 5) (kp := 4) (by decide) (by decide) (by decide) (by decide) hx] at em5
  subst em5
  refine ⟨by omega, by omega, by omega, ?_⟩
  intro m6 em6
  rw [tk_step (k := 6) (kp := 5) (by decide) (by decide) (by decide) (by decide) hx] at em6
  subst em6
  refine ⟨by omega, by omega, by omega, ?_⟩
  intro m7 em7
  rw [tk_step (k := 7) (kp := 6) (by decide) (by decide) (by decide) (by decide) hx] at em7
  subst em7
  refine ⟨by omega, by omega, by omega, ?_⟩
  intro m8 em8
  rw [tk_step (k := 8) (kp := 7) (by decide) (by decide) (by decide) (by decide) hx] at em8
  subst em8
  refine ⟨by omega, by omega, by omega, ?_⟩
  intro m9 em9
  rw [tk_step (k := 9) (kp := 8) (by decide) (by decide) (by decide) (by decide) hx] at em9
  subst em9
  refine ⟨by omega, by omega, by omega, ?_⟩
  intro m10 em10
  rw [tk_step (k := 10) (kp := 9) (by decide) (by decide) (by decide) (by decide) hx] at em10
  subst em10
  refine ⟨by omega, by omega, by omega, ?_⟩
  intro m11 em11
  rw [tk_step (k := 11) (kp := 10) (by decide) (by decide) (by decide) (by decide) hx] at em11
  subst em11
  refine ⟨by omega, by omega, by omega, ?_⟩
  intro m12 em12
  rw [tk_step (k := 12) (kp := 11) (by decide) (by decide) (by decide) (by decide) hx] at em12
  subst em12
  refine ⟨by omega, by omega, by omega, fun i i1 i2 => by rw [blk_Ao (by omega)]; exact rg i i1 (by omega), ?_⟩
  intro m13 em13
  rw [tk_step (k := 13) (kp := 12) (by decide) (by decide) (by decide) (by decide) hx] at em13
  subst em13
  refine ⟨by omega, by omega, by omega, fun i i1 i2 => by rw [blk_Ao (by omega)]; exact (rl i i1 (by omega)).elim Or.inl (fun z => Or.inr (tk6 z)), ?_⟩
  intro m14 em14
  rw [tk_step (k := 14) (kp := 13) (by decide) (by decide) (by decide) (by decide) hx] at em14
  subst em14
  refine ⟨by omega, by omega, by omega, ?_⟩
  intro m15 em15
  rw [tk_step (k := 15) (kp := 14) (by decide) (by decide) (by decide) (by decide) hx] at em15
  subst em15
  refine ⟨by omega, by omega, by omega, ?_⟩
  intro m16 em16
  rw [tk_step (k := 16) (kp := 15) (by decide) (by decide) (by decide) (by decide) hx] at em16
  subst em16
  refine ⟨by omega, by omega, by omega, ?_⟩
  intro m17 em17
  rw [tk_step (k := 17) (kp := 16) (by decide) (by decide) (by decide) (by decide) hx] at em17
  subst em17
  refine ⟨by omega, by omega, by omega, ?_⟩
  intro m18 em18
  rw [tk_step (k := 18) (kp := 17) (by decide) (by decide) (by decide) (by decide) hx] at em18
  subst em18
  refine ⟨by omega, by omega, by omega, ?_⟩
  intro m19 em19
  rw [tk_step (k := 19) (kp := 18) (by decide) (by decide) (by decide) (by decide) hx] at em19
  subst em19
  refine ⟨by omega, by omega, by omega, ?_⟩
  intro m20 em20
  rw [tk_step (k := 20) (kp := 19) (by decide) (by decide) (by decide) (by decide) hx] at em20
  subst em20
  refine ⟨by omega, by omega, by omega, ?_⟩
  intro m21 em21
  rw [tk_step (k := 21) (kp := 20) (by decide) (by decide) (by decide) (by decide) hx] at em21
  subst em21
  intro n23 en23
  rw [blk_setF, blk_Fo hne] at en23
  subst en23
  intro n24 en24
  rw [blk_setF, blk_Fo hne] at en24
  subst en24
  intro n25 en25
  rw [blk_setF, blk_Fo hne] at en25
  subst en25
  intro n26 en26
  rw [blk_setF, blk_Fo hne] at en26
  subst en26
  exact hq
/-- another bar's row, taken over -/
theorem BX.takes {x : Int} (X : BX h x o r c q row cm bell) (hn : r 5 ≤ 10 ∧ 0 ≤ r 5) (h4 : cm ≤ 4) (lay : ∀ k : Nat, 2 ≤ k → k ≤ 22 → F k = b + ((k : Int) - 1)) (f0 : F 0 = o) (f1 : F 1 = r 5) : BR h b o r c q row cm (upN (upN (upN (upN F 23 (hF h x 23)) 24 (hF h x 24)) 25 (hF h x 25)) 26 (hF h x 26)) (tkA A (BA h x) 21) ∧ (upN (upN (upN (upN F 23 (hF h x 23)) 24 (hF h x 24)) 25 (hF h x 25)) 26 (hF h x 26)) 26 = bell := by
  have V := X.br
  have ok : ∀ k : Nat, k ≤ 22 → (upN (upN (upN (upN F 23 (hF h x 23)) 24 (hF h x 24)) 25 (hF h x 25)) 26 (hF h x 26)) k = F k := fun k hk => by rw [upN_ne (by omega), upN_ne (by omega), upN_ne (by omega), upN_ne (by omega)]
  have t : ∀ (k : Int) (j : Int), 1 ≤ k → k ≤ 13 → 0 ≤ j → j < 10 → tkA A (BA h x) 21 k j = BA h x k j := fun k j k1 k2 j1 j2 => tkA_v k1 (by omega) j1 (by unfold barK; rw [if_pos k2]; exact j2)
  have t4 : ∀ (k : Int) (j : Int), 14 ≤ k → k ≤ 21 → k ≠ 20 → 0 ≤ j → j < 4 → tkA A (BA h x) 21 k j = BA h x k j := fun k j k1 k2 k3 j1 j2 => tkA_v (by omega) k2 j1 (by unfold barK; rw [if_neg (by omega), if_neg k3]; exact j2)
  refine ⟨⟨fun k k1 k2 => by rw [ok k k2]; exact lay k k1 k2, by rw [ok 0 (by omega)]; exact f0, by rw [ok 1 (by omega)]; exact f1, V.sn, V.now, V.many, ?_, ?_, ?_, ?_, ?_, ?_, ?_, ?_, ?_, ?_, ?_, ?_, ?_, ?_, ?_, ?_, ?_, ?_, ?_, ?_, ?_, fun i i1 i2 => by rw [t 13 i (by omega) (by omega) i1 i2]; exact V.rg i i1 i2, fun i i1 i2 => ?_⟩, X.bl⟩
  · intro p p1 p2; rw [t 1 p (by omega) (by omega) p1 (by omega)]; exact V.does p p1 p2
  · intro p p1 p2; rw [t 2 p (by omega) (by omega) p1 (by omega)]; exact V.place p p1 p2
  · intro p p1 p2; rw [t 3 p (by omega) (by omega) p1 (by omega)]; exact V.look p p1 p2
  · intro p p1 p2; rw [t 4 p (by omega) (by omega) p1 (by omega)]; exact V.says p p1 p2
  · intro p p1 p2; rw [t 5 p (by omega) (by omega) p1 (by omega)]; exact V.shelf p p1 p2
  · intro p p1 p2; rw [t 6 p (by omega) (by omega) p1 (by omega)]; exact V.begun p p1 p2
  · intro p p1 p2; rw [t 7 p (by omega) (by omega) p1 (by omega)]; exact V.whom p p1 p2
  · intro p p1 p2; rw [t 8 p (by omega) (by omega) p1 (by omega)]; exact V.had p p1 p2
  · intro p p1 p2 w1 w2; rw [t 9 p (by omega) (by omega) p1 (by omega)]; exact V.wait p p1 p2 w1 w2
  · intro p p1 p2; rw [t 10 p (by omega) (by omega) p1 (by omega)]; exact V.pass p p1 p2
  · intro p p1 p2; rw [t 11 p (by omega) (by omega) p1 (by omega)]; exact V.push p p1 p2
  · intro k k1 k2; rw [t 12 k (by omega) (by omega) k1 k2]; exact V.served k k1 k2
  · intro p p1 p2; rw [t 13 p (by omega) (by omega) p1 (by omega)]; exact V.reg p p1 p2
  · intro s s1 s2; rw [t4 14 s (by omega) (by omega) (by omega) s1 (by omega)]; exact V.rule s s1 s2
  · intro s s1 s2; rw [t4 15 s (by omega) (by omega) (by omega) s1 (by omega)]; exact V.stands s s1 s2
  · intro s s1 s2; rw [t4 16 s (by omega) (by omega) (by omega) s1 (by omega)]; exact V.frm s s1 s2
  · intro s s1 s2; rw [t4 17 s (by omega) (by omega) (by omega) s1 (by omega)]; exact V.til s s1 s2
  · intro s s1 s2; rw [t4 18 s (by omega) (by omega) (by omega) s1 (by omega)]; exact V.step s s1 s2
  · intro s s1 s2; rw [t4 19 s (by omega) (by omega) (by omega) s1 (by omega)]; exact V.hands s s1 s2
  · intro s k s1 s2 k1 k2; rw [tkA_v (by omega) (by omega) (by omega) (by unfold barK; rw [if_neg (by omega), if_pos rfl]; omega)]; exact V.busy s k s1 s2 k1 k2
  · intro s s1 s2; rw [t4 21 s (by omega) (by omega) (by omega) s1 (by omega)]; exact V.last s s1 s2
  · rw [t4 14 i (by omega) (by omega) (by omega) i1 i2]; exact V.rl i i1 i2
theorem BI.ini {h0 m0 : Hp} {a : Int} (ha : a = hN h0) (em : m0 = alloc h0 13 0 27) (p : 1 ≤ a) : BI h0 a 0 m0 := by
  subst em
  subst ha
  refine ⟨p, ?_, Lo.alloc (Int.le_refl _), if_pos rfl, fun k => ?_, fun k k1 k2 => absurd k2 (by omega), fun k j k1 k2 => absurd k2 (by omega), ?_⟩
  · show hN h0 + 1 = _
    omega
  · rw [if_neg (by omega)]; exact if_pos rfl
  · show hS h0 + 27 ≤ _
    omega
/-- a new bar of a house -/
theorem c_init {h0 m0 : Hp} {a : Int} (ha : a = hN h0) (em : m0 = alloc h0 13 0 27) (p : 1 ≤ a) (c1 : hN h0 + 30 ≤ hF h0 0 0 + 1200128) (c2 : hS h0 + 300 ≤ 5501098) (HO : HouseOK r) (H : HouseAt h0 o r hb) (hlo : hb ≤ a)
    (hqr : ∀ p i : Int, 0 ≤ p → p < r 5 → 0 ≤ i → i < 7 → q (7 * p + i) = r (41 + (7 * p + i))) (hcr : ∀ s i : Int, 0 ≤ s → s < r 4 → 0 ≤ i → i < 6 → c (6 * s + i) = r (23 + (6 * s + i)))
    (hq : ∀ (m : Hp) (F' : Nat → Int) (A' : Int → Int → Int), BI h0 a 21 m → BR m a o r c q (lfS q c (r 5).toNat (r 4).toNat) (r 4).toNat F' A' → F' 26 = r 2 → Qv (blk m a 21 F' A')) : g_X21_init a o Qv m0 := by
  refine c_init0 (BI.ini ha em p) ha c1 c2 H hlo (fun m I => ?_)
  refine c_initL HO (H.lo (I.lo.le hlo)) hlo p I.tg (fun k k1 k2 => I.ar k k1 k2) hqr hcr (fun k k1 k2 => ?_) ?_ ?_ ?_ ?_ ?_ (fun k k1 k2 => ?_) (fun F' A' V e => hq m F' A' I V (e.trans upN_eq))
  · rw [upN_ne (by omega), upN_ne (by omega), upN_ne (by omega), I.fs, if_pos (by omega)]
  · rw [upN_ne (by omega), upN_ne (by omega), upN_eq]
  · rw [upN_ne (by omega), upN_eq]
  · rw [upN_ne (by omega), upN_ne (by omega), upN_ne (by omega), I.fs, if_neg (by omega)]
  · rw [upN_ne (by omega), upN_ne (by omega), upN_ne (by omega), I.fs, if_neg (by omega)]
  · rw [upN_ne (by omega), upN_ne (by omega), upN_ne (by omega), I.fs, if_neg (by omega)]
  · funext j
    have := I.ze k.toNat j (by omega) (by omega)
    rw [show ((k.toNat : Nat) : Int) = k by omega] at this
    exact this
theorem c_copy {h0 : Hp} {x : Int} {cr qr : Int → Int} (w0 : 1 ≤ hN h0) (c1 : hN h0 + 30 ≤ hF h0 0 0 + 1200128) (c2 : hS h0 + 300 ≤ 5501098) (HO : HouseOK r) (H : HouseAt h0 o r hb) (hlo : hb ≤ hN h0) (hx : x + 21 < hN h0) (h4 : cm ≤ 4)
    (X : BX h0 x o r c q row cm bell) (hq : ∀ (m : Hp) (F' : Nat → Int) (A' : Int → Int → Int), BI h0 (hN h0) 21 m → BR m (hN h0) o r c q row cm F' A' → F' 26 = bell → Q (hN h0) (blk m (hN h0) 21 F' A')) : g_X21_copy x Q h0 := by
  have hn := HO.pm
  unfold g_X21_copy
  refine ⟨⟨by omega, by omega⟩, ?_⟩
  intro a0 m0 ea em wf
  have e0 : hF m0 x 0 = o := by
    rw [em]
    show (if x = hN h0 then 0 else hF h0 x 0) = o
    rw [if_neg (by omega)]; exact X.sh.house
  rw [e0]
  have p : 1 ≤ a0 := by omega
  subst ea
  refine c_init (q := ppl r) (c := crw r) rfl em p c1 c2 HO H hlo (fun p i p1 p2 i1 i2 => ?_) (fun s i s1 s2 i1 i2 => ?_) (fun m F' A' I V e _ => ⟨lay21 p I.tg (fun k k1 k2 => I.ar k k1 k2) _ _ V.lay, ?_⟩)
  · unfold ppl; rw [if_pos (by omega)]
  · have := HO.sm
    unfold crw; rw [if_pos (by omega)]
  · have tx : ∀ a : Int, a < hN h0 → hT m a = hT h0 a := fun a ha => (I.lo a ha).1
    have X1 : BX m x o r c q row cm bell := X.same (Same.lo I.lo hx) (fun a ha => ?_)
    have X2 : BX (blk m (hN h0) 21 F' A') x o r c q row cm bell := X1.same (Same.blk1 (Or.inl hx) (by omega)) (fun _ _ => rfl)
    refine c_takes (Or.inl hx) ?_ X1.br.rg X1.br.rl (fun _ => ?_)
    · have L := lay21 X2.sh.pos X2.sh.tg X2.sh.ar (BF (blk m (hN h0) 21 F' A') x) (BA (blk m (hN h0) 21 F' A') x) X2.sh.lay
      rw [← blk_self] at L
      exact L
    · obtain ⟨V2, e2⟩ := X1.takes (b := hN h0) (F := F') (A := A') ⟨by omega, by omega⟩ h4 V.lay V.house V.pn
      exact hq m _ _ I V2 e2
    · by_cases z : a < hN h0
      · exact tx a z
      · have := (wf.2 a ha).2
        omega
end B
