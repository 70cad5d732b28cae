/-! LAYER 3: the component's calls that only look (printed in part by tools/mk71.py) -/
section W
variable {h h' : Hp} {N hs o hb bb sa ev tr b bell : Int} {r c q row st : Int → Int} {cm : Nat} {B : Int} {Q : Int → Hp → Prop} {Qv : Hp → Prop}
theorem w_fate (E : BE h b o hb r c q cm) (X : BX h b o r c q row cm bell) {t1 p : Int} (hp : 0 ≤ p ∧ p < r 5) (P : PI q row p t1) (hq : Q (fatC row p) h) : g_X21_fate b p Q h := by
  rw [blk_self (h := h) (b := b) (n := 21)] at hq ⊢
  exact c_fate E X.br hp P hq
theorem w_hasIt (E : BE h b o hb r c q cm) (X : BX h b o r c q row cm bell) {t1 p : Int} (hp : 0 ≤ p ∧ p < r 5) (P : PI q row p t1) (hq : Q (if fatC row p < 2 then 1 else 0) h) : g_X21_hasIt b p Q h := by
  rw [blk_self (h := h) (b := b) (n := 21)] at hq ⊢
  exact c_hasIt E X.br hp P hq
theorem w_waits (E : BE h b o hb r c q cm) (X : BX h b o r c q row cm bell) {t1 p : Int} (hbl : 0 ≤ bell ∧ bell ≤ 900) (hp : 0 ≤ p ∧ p < r 5) (P : PI q row p t1) (hq : Q (waiC q row bell p) h) : g_X21_waits b p Q h := by
  have e : BF h b 26 = bell := X.bl
  rw [blk_self (h := h) (b := b) (n := 21)] at hq ⊢
  refine c_waits E X.br (by rw [e]; exact hbl) hp P ?_
  rw [e]; exact hq
theorem w_sum (E : BE h b o hb r c q cm) (X : BX h b o r c q row cm bell) (R : RowOK B row) (HH : HI q row (r 5).toNat) (hB : 10000 ≤ B ∧ B ≤ 100000) {what : Int} (hbl : 0 ≤ bell ∧ bell ≤ 900) (hn1 : row 0 ≤ bell + 1) (hq : Q (sumF r q row bell what) h) : g_X21_sum b what Q h := by
  have e : BF h b 26 = bell := X.bl
  rw [blk_self (h := h) (b := b) (n := 21)] at hq ⊢
  refine c_sum E X.br R HH hB (by rw [e]; exact hbl) (by rw [e]; exact hn1) ?_
  rw [e]; exact hq
theorem w_next (E : BE h b o hb r c q cm) (X : BX h b o r c q row cm bell) (R : RowOK B row) (hB : B ≤ 100000) {s : Int} (hs : 0 ≤ s ∧ s < cm) (hq : Q (nxN c q row s (r 5).toNat) h) : g_X21_next b s Q h := by
  rw [blk_self (h := h) (b := b) (n := 21)] at hq ⊢
  exact c_next E X.br R hB hs hq
theorem w_time (E : BE h b o hb r c q cm) (X : BX h b o r c q row cm bell) {s p : Int} (hs : 0 ≤ s ∧ s < cm) (hp : 0 ≤ p ∧ p < r 5) (hl : 0 ≤ row (92 + 4 * s + 3) ∧ row (92 + 4 * s + 3) ≤ r 5) (hq : Q (tbF r (row (92 + 4 * s + 3) - 1) p) h) : g_X21_time b s p Q h := by
  rw [blk_self (h := h) (b := b) (n := 21)] at hq ⊢
  exact c_time E X.br.house (X.br.last s hs.1 hs.2) hs hp hl hq
theorem w_doesNow (E : BE h b o hb r c q cm) (X : BX h b o r c q row cm bell) {p : Int} (hp : 0 ≤ p ∧ p < r 5) (hq : Q (if row (12 + 8 * p + 0) = 2 ∧ row (12 + 8 * p + 5) ≤ row 0 then 3 else row (12 + 8 * p + 0)) h) : g_X21_doesNow b p Q h := by
  rw [blk_self (h := h) (b := b) (n := 21)] at hq ⊢
  exact c_doesNow E X.br hp hq
theorem w_busyHands (E : BE h b o hb r c q cm) (X : BX h b o r c q row cm bell) {s : Int} (hs : 0 ≤ s ∧ s < cm) (hq : Q (busN row s (c (6 * s + 5)).toNat) h) : g_X21_busyHands b s Q h := by
  rw [blk_self (h := h) (b := b) (n := 21)] at hq ⊢
  exact c_busyHands E X.br hs hq
theorem w_firstFree (E : BE h b o hb r c q cm) (X : BX h b o r c q row cm bell) (R : RowOK B row) (hB : B ≤ 100000) {s : Int} (hs : 0 ≤ s ∧ s < cm) (h1 : 1 ≤ c (6 * s + 5)) (hq : Q (if lstN row s (c (6 * s + 5)).toNat ≤ row 0 then row 0 else lstN row s (c (6 * s + 5)).toNat) h) : g_X21_firstFree b s Q h := by
  rw [blk_self (h := h) (b := b) (n := 21)] at hq ⊢
  exact c_firstFree E X.br R hB hs h1 hq
/-- the component, with a house (hs ≠ 0) or without -/
def CS (h : Hp) (N hs o hb bb sa ev tr : Int) (r st : Int → Int) (B : Int) : Prop := (hs = 0 → hF h N 5 = 0) ∧ (hs ≠ 0 → WS h N o hb bb sa ev tr r st B) ∧ (Lay_X1 h N) ∧ (hF h (N + 2) 0 = 0 ∧ hF h (N + 3) 0 = 30)
theorem CS.no {h : Hp} {N hs o hb bb sa ev tr : Int} {r st : Int → Int} {B : Int} (H : CS h N hs o hb bb sa ev tr r st B) : hs = 0 → hF h N 5 = 0 := H.1
theorem CS.ws {h : Hp} {N hs o hb bb sa ev tr : Int} {r st : Int → Int} {B : Int} (H : CS h N hs o hb bb sa ev tr r st B) : hs ≠ 0 → WS h N o hb bb sa ev tr r st B := H.2.1
theorem CS.lay {h : Hp} {N hs o hb bb sa ev tr : Int} {r st : Int → Int} {B : Int} (H : CS h N hs o hb bb sa ev tr r st B) : Lay_X1 h N := H.2.2.1
theorem CS.hon {h : Hp} {N hs o hb bb sa ev tr : Int} {r st : Int → Int} {B : Int} (H : CS h N hs o hb bb sa ev tr r st B) : hF h (N + 2) 0 = 0 ∧ hF h (N + 3) 0 = 30 := H.2.2.2
theorem CS.np (C : CS h N hs o hb bb sa ev tr r st B) : 1 ≤ N := C.lay.1
/-- what a call leaves that only looks: its trouble is t -/
abbrev Fin3 (N hs o hb bb sa ev tr : Int) (r st : Int → Int) (B : Int) (h h' : Hp) (t : Int) : Prop := Mv N ev tr h h' ∧ CS h' N hs o hb bb sa ev tr r st B ∧ hF h' N 4 = t ∧ hF h' N 3 = -1
theorem CS.setN (C : CS h N hs o hb bb sa ev tr r st B) {k : Nat} {v : Int} (hk : k = 3 ∨ k = 4) : CS (setF h N k v) N hs o hb bb sa ev tr r st B := by
  have p := C.np
  have e : ∀ j : Nat, j ≠ k → hF (setF h N k v) N j = hF h N j := fun j hj => if_neg (fun z => hj z.2)
  refine ⟨fun z => by rw [e 5 (by omega)]; exact C.no z, fun z => (C.ws z).setN hk, ?_, ?_⟩
  · obtain ⟨a, b, c, d, f, g, i⟩ := C.lay
    exact ⟨a, b, ⟨(e 0 (by omega)).trans c.1, c.2⟩, ⟨(e 11 (by omega)).trans d.1, d.2⟩, ⟨(e 12 (by omega)).trans f.1, f.2⟩, ⟨(e 13 (by omega)).trans g.1, g.2⟩, ⟨(e 14 (by omega)).trans i.1, i.2⟩⟩
  · have e2 : ∀ a : Int, a ≠ N → hF (setF h N k v) a 0 = hF h a 0 := fun a ha => if_neg (fun z => ha z.1)
    rw [e2 _ (by omega), e2 _ (by omega)]; exact C.hon
theorem CS.fin {h1 : Hp} (C : CS h1 N hs o hb bb sa ev tr r st B) (M : Mv N ev tr h h1) (t : Int) : Fin3 N hs o hb bb sa ev tr r st B h (setF (setF h1 N 4 t) N 3 (-1)) t := by
  have p := C.np
  refine ⟨(M.tr (Mv.setN (Or.inr (Or.inl rfl)) p)).tr (Mv.setN (Or.inl rfl) p), (C.setN (Or.inr rfl)).setN (Or.inl rfl), ?_, if_pos ⟨rfl, rfl⟩⟩
  show (if N = N ∧ (4 : Nat) = 3 then -1 else if N = N ∧ (4 : Nat) = 4 then t else hF h1 N 4) = t
  rw [if_neg (fun z => by omega), if_pos ⟨rfl, rfl⟩]
theorem CS.mvW {h1 : Hp} (C : CS h N hs o hb bb sa ev tr r st B) (hz : hs ≠ 0) (M : Mv N ev tr h h1) (W : WS h1 N o hb bb sa ev tr r st B) : CS h1 N hs o hb bb sa ev tr r st B := by
  have W0 := C.ws hz
  have e : ∀ j : Nat, j ≠ 3 → j ≠ 4 → j ≠ 10 → hF h1 N j = hF h N j := fun j a b c => M.nf j a b c
  obtain ⟨a, b, c, d, f, g, i⟩ := C.lay
  have t : ∀ x : Int, hT h x ≠ 0 → hT h1 x = hT h x := fun x hx => (M.tg x hx).1
  have nb := W0.nb
  have l1 := W0.loe
  have l2 := W0.lot
  have f2 := (M.fr (N + 2) (by rw [d.2]; decide) (by omega) (Or.inl (by omega)) (Or.inl (by omega))).1
  have f3 := (M.fr (N + 3) (by rw [f.2]; decide) (by omega) (Or.inl (by omega)) (Or.inl (by omega))).1
  refine ⟨fun z => absurd z hz, fun _ => W, ⟨a, by rw [t N (by rw [b]; decide)]; exact b, ⟨(e 0 (by omega) (by omega) (by omega)).trans c.1, by rw [t _ (by rw [c.2.1]; decide)]; exact c.2.1, by rw [(M.tg _ (by rw [c.2.1]; decide)).2]; exact c.2.2⟩, ⟨(e 11 (by omega) (by omega) (by omega)).trans d.1, by rw [t _ (by rw [d.2]; decide)]; exact d.2⟩, ⟨(e 12 (by omega) (by omega) (by omega)).trans f.1, by rw [t _ (by rw [f.2]; decide)]; exact f.2⟩, ⟨(e 13 (by omega) (by omega) (by omega)).trans g.1, by rw [t _ (by rw [g.2]; decide)]; exact g.2⟩, ⟨(e 14 (by omega) (by omega) (by omega)).trans i.1, by rw [t _ (by rw [i.2]; decide)]; exact i.2⟩⟩, ?_⟩
  rw [f2, f3]; exact C.hon
theorem w_isPerson (C : CS h N hs o hb bb sa ev tr r st B) {p : Int} (hq : Q (if hs ≠ 0 ∧ 0 ≤ p ∧ p ≤ r 5 - 1 then 1 else 0) h) : g_X1_isPerson N p Q h := by
  unfold g_X1_isPerson g_X1_isPerson_b31 g_X1_isPerson_b32
  by_cases z : hs = 0
  · rw [C.no z]
    rw [if_neg (fun y => y.1 z)] at hq
    exact ⟨fun _ => ⟨Or.inl rfl, hq⟩, fun y => absurd y (by decide)⟩
  · have W := C.ws z
    have hn := W.ho.pm
    have o1 := W.o1
    rw [W.f5]
    refine ⟨fun y => absurd y (by omega), fun _ => ⟨W.ha.lay, l_size (fun _ => ?_)⟩⟩
    rw [W.ha.lp.1]
    refine ⟨(by first | omega | (unfold i32; omega)), c_in (fun _ => ⟨fun y => ⟨Or.inl rfl, ?_⟩, fun y => ⟨Or.inr rfl, ?_⟩⟩)⟩
    · rw [if_neg (fun w => zero_of y w.2)] at hq; exact hq
    · rw [if_pos ⟨z, one_of y⟩] at hq; exact hq
theorem w_isServer (C : CS h N hs o hb bb sa ev tr r st B) {p : Int} (hq : Q (if hs ≠ 0 ∧ 0 ≤ p ∧ p ≤ r 4 - 1 then 1 else 0) h) : g_X1_isServer N p Q h := by
  unfold g_X1_isServer g_X1_isServer_b31 g_X1_isServer_b32
  by_cases z : hs = 0
  · rw [C.no z]
    rw [if_neg (fun y => y.1 z)] at hq
    exact ⟨fun _ => ⟨Or.inl rfl, hq⟩, fun y => absurd y (by decide)⟩
  · have W := C.ws z
    have hn := W.ho.sm
    have o1 := W.o1
    rw [W.f5]
    refine ⟨fun y => absurd y (by omega), fun _ => ⟨W.ha.lay, l_size (fun _ => ?_)⟩⟩
    rw [W.ha.ls.1]
    refine ⟨(by first | omega | (unfold i32; omega)), c_in (fun _ => ⟨fun y => ⟨Or.inl rfl, ?_⟩, fun y => ⟨Or.inr rfl, ?_⟩⟩)⟩
    · rw [if_neg (fun w => zero_of y w.2)] at hq; exact hq
    · rw [if_pos ⟨z, one_of y⟩] at hq; exact hq
theorem w_isPlace (C : CS h N hs o hb bb sa ev tr r st B) {p : Int} (hq : Q (if hs ≠ 0 ∧ 0 ≤ p ∧ p ≤ r 1 - 1 then 1 else 0) h) : g_X1_isPlace N p Q h := by
  unfold g_X1_isPlace g_X1_isPlace_b28 g_X1_isPlace_b29
  by_cases z : hs = 0
  · rw [C.no z]
    rw [if_neg (fun y => y.1 z)] at hq
    exact ⟨fun _ => ⟨Or.inl rfl, hq⟩, fun y => absurd y (by decide)⟩
  · have W := C.ws z
    have hn := W.ho.long
    have o1 := W.o1
    rw [W.f5, W.ha.long]
    refine ⟨fun y => absurd y (by omega), fun _ => ⟨W.ha.lay, (by first | omega | (unfold i32; omega)), c_in (fun _ => ⟨fun y => ⟨Or.inl rfl, ?_⟩, fun y => ⟨Or.inr rfl, ?_⟩⟩)⟩⟩
    · rw [if_neg (fun w => zero_of y w.2)] at hq; exact hq
    · rw [if_pos ⟨z, one_of y⟩] at hq; exact hq
theorem noAway (W : WS h N o hb bb sa ev tr r st B) {q e : Int → Int} {p : Int} (hq : q (7 * p + 2) = r (41 + (7 * p + 2))) (HE : HI q e (r 5).toNat) (e0 : e 0 = r 2 + 1) (hp : 0 ≤ p ∧ p < r 5) : e (12 + 8 * p + 0) ≠ 0 := fun z => by
  have a := (HE.1 p hp.1 (by omega)).away z
  have := W.cb p hp.1 hp.2
  omega
theorem WS.q2 (W : WS h N o hb bb sa ev tr r st B) {p : Int} (hp : 0 ≤ p ∧ p < r 5) : ppl r (7 * p + 2) = r (41 + (7 * p + 2)) := ppl_q (by have := W.ho.pm; omega) hp ⟨by omega, by omega⟩
theorem e_fate (C : CS h N hs o hb bb sa ev tr r st B) {p : Int} (no : ¬ (hs ≠ 0 ∧ 0 ≤ p ∧ p ≤ r 5 - 1) → ∀ h', Fin3 N hs o hb bb sa ev tr r st B h h' 1 → Q (-1) h') (yes : hs ≠ 0 ∧ 0 ≤ p ∧ p ≤ r 5 - 1 → ∀ h', Fin3 N hs o hb bb sa ev tr r st B h h' 0 → Q (fateF (evT r st) p) h') : g_X1_fate N p Q h := by
  unfold g_X1_fate g_X1_fate_b28
  refine w_isPerson C (fun _ => ⟨fun c => w_refused (fun _ => no (zero_of c) _ (C.fin Mv.rf 1)), fun c => ?_⟩)
  have c := one_of c
  have W := C.ws c.1
  have hn := W.ho.pm
  have bl := W.ho.bell
  have hp : 0 ≤ p ∧ p < r 5 := ⟨c.2.1, by omega⟩
  refine w_toCome W (fun h1 M W1 X HE RE e0 _ => ⟨W1.lx X.sh, ?_⟩)
  have E1 := W1.bs W1.loe X.sh
  have na := noAway W (W.q2 hp) HE e0 hp
  have fin := yes c _ ((C.mvW c.1 M W1).fin M 0)
  refine w_fate E1 X hp (HE.1 p hp.1 (by omega)) (fun _ => ?_)
  rw [show fatC (evT r st) p = fateF (evT r st) p from if_neg na]
  exact w_well (fun _ => fin)
theorem e_waits (C : CS h N hs o hb bb sa ev tr r st B) {p : Int} (no : ¬ (hs ≠ 0 ∧ 0 ≤ p ∧ p ≤ r 5 - 1) → ∀ h', Fin3 N hs o hb bb sa ev tr r st B h h' 1 → Q (-1) h') (yes : hs ≠ 0 ∧ 0 ≤ p ∧ p ≤ r 5 - 1 → ∀ h', Fin3 N hs o hb bb sa ev tr r st B h h' 0 → Q (waitF (ppl r) (evT r st) (r 2) p) h') : g_X1_waits N p Q h := by
  unfold g_X1_waits g_X1_waits_b28
  refine w_isPerson C (fun _ => ⟨fun c => w_refused (fun _ => no (zero_of c) _ (C.fin Mv.rf 1)), fun c => ?_⟩)
  have c := one_of c
  have W := C.ws c.1
  have hn := W.ho.pm
  have bl := W.ho.bell
  have hp : 0 ≤ p ∧ p < r 5 := ⟨c.2.1, by omega⟩
  refine w_toCome W (fun h1 M W1 X HE RE e0 _ => ⟨W1.lx X.sh, ?_⟩)
  have E1 := W1.bs W1.loe X.sh
  have na := noAway W (W.q2 hp) HE e0 hp
  have fin := yes c _ ((C.mvW c.1 M W1).fin M 0)
  refine w_waits E1 X ⟨by omega, by omega⟩ hp (HE.1 p hp.1 (by omega)) (fun _ => ?_)
  rw [show waiC (ppl r) (evT r st) (r 2) p = waitF (ppl r) (evT r st) (r 2) p from if_neg na]
  exact w_well (fun _ => fin)
theorem e_whom (C : CS h N hs o hb bb sa ev tr r st B) {p : Int} (no : ¬ (hs ≠ 0 ∧ 0 ≤ p ∧ p ≤ r 5 - 1) → ∀ h', Fin3 N hs o hb bb sa ev tr r st B h h' 1 → Q (-1) h') (yes : hs ≠ 0 ∧ 0 ≤ p ∧ p ≤ r 5 - 1 → ∀ h', Fin3 N hs o hb bb sa ev tr r st B h h' 0 → Q (evT r st (12 + 8 * p + 6)) h') : g_X1_whom N p Q h := by
  unfold g_X1_whom g_X1_whom_b29
  refine w_isPerson C (fun _ => ⟨fun c => w_refused (fun _ => no (zero_of c) _ (C.fin Mv.rf 1)), fun c => ?_⟩)
  have c := one_of c
  have W := C.ws c.1
  have hn := W.ho.pm
  have bl := W.ho.bell
  have hp : 0 ≤ p ∧ p < r 5 := ⟨c.2.1, by omega⟩
  refine w_toCome W (fun h1 M W1 X HE RE e0 _ => ⟨W1.lx X.sh, ?_⟩)
  have E1 := W1.bs W1.loe X.sh
  have na := noAway W (W.q2 hp) HE e0 hp
  have fin := yes c _ ((C.mvW c.1 M W1).fin M 0)
  rw [show hA h1 (ev + 7) p = evT r st (12 + 8 * p + 6) from X.br.whom p hp.1 hp.2]
  exact ⟨(by first | omega | (unfold i32; omega)), w_well (fun _ => fin)⟩
theorem e_has (C : CS h N hs o hb bb sa ev tr r st B) {p : Int} (no : ¬ (hs ≠ 0 ∧ 0 ≤ p ∧ p ≤ r 5 - 1) → ∀ h', Fin3 N hs o hb bb sa ev tr r st B h h' 1 → Q (-1) h') (yes : hs ≠ 0 ∧ 0 ≤ p ∧ p ≤ r 5 - 1 → ∀ h', Fin3 N hs o hb bb sa ev tr r st B h h' 0 → Q (evT r st (12 + 8 * p + 5)) h') : g_X1_has N p Q h := by
  unfold g_X1_has g_X1_has_b29
  refine w_isPerson C (fun _ => ⟨fun c => w_refused (fun _ => no (zero_of c) _ (C.fin Mv.rf 1)), fun c => ?_⟩)
  have c := one_of c
  have W := C.ws c.1
  have hn := W.ho.pm
  have bl := W.ho.bell
  have hp : 0 ≤ p ∧ p < r 5 := ⟨c.2.1, by omega⟩
  refine w_toCome W (fun h1 M W1 X HE RE e0 _ => ⟨W1.lx X.sh, ?_⟩)
  have E1 := W1.bs W1.loe X.sh
  have na := noAway W (W.q2 hp) HE e0 hp
  have fin := yes c _ ((C.mvW c.1 M W1).fin M 0)
  rw [show hA h1 (ev + 8) p = evT r st (12 + 8 * p + 5) from X.br.had p hp.1 hp.2]
  exact ⟨(by first | omega | (unfold i32; omega)), w_well (fun _ => fin)⟩
theorem e_passed (C : CS h N hs o hb bb sa ev tr r st B) {p : Int} (no : ¬ (hs ≠ 0 ∧ 0 ≤ p ∧ p ≤ r 5 - 1) → ∀ h', Fin3 N hs o hb bb sa ev tr r st B h h' 1 → Q (-1) h') (yes : hs ≠ 0 ∧ 0 ≤ p ∧ p ≤ r 5 - 1 → ∀ h', Fin3 N hs o hb bb sa ev tr r st B h h' 0 → Q (pasF (ppl r) (evT r st) p) h') : g_X1_passed N p Q h := by
  unfold g_X1_passed g_X1_passed_b29
  refine w_isPerson C (fun _ => ⟨fun c => w_refused (fun _ => no (zero_of c) _ (C.fin Mv.rf 1)), fun c => ?_⟩)
  have c := one_of c
  have W := C.ws c.1
  have hn := W.ho.pm
  have bl := W.ho.bell
  have hp : 0 ≤ p ∧ p < r 5 := ⟨c.2.1, by omega⟩
  refine w_toCome W (fun h1 M W1 X HE RE e0 _ => ⟨W1.lx X.sh, ?_⟩)
  have E1 := W1.bs W1.loe X.sh
  have na := noAway W (W.q2 hp) HE e0 hp
  have fin := yes c _ ((C.mvW c.1 M W1).fin M 0)
  rw [show hA h1 (ev + 10) p = pasF (ppl r) (evT r st) p from X.br.pass p hp.1 hp.2]
  exact ⟨(by first | omega | (unfold i32; omega)), w_well (fun _ => fin)⟩
theorem e_pushed (C : CS h N hs o hb bb sa ev tr r st B) {p : Int} (no : ¬ (hs ≠ 0 ∧ 0 ≤ p ∧ p ≤ r 5 - 1) → ∀ h', Fin3 N hs o hb bb sa ev tr r st B h h' 1 → Q (-1) h') (yes : hs ≠ 0 ∧ 0 ≤ p ∧ p ≤ r 5 - 1 → ∀ h', Fin3 N hs o hb bb sa ev tr r st B h h' 0 → Q (pusF (ppl r) (evT r st) (r 5).toNat p) h') : g_X1_pushed N p Q h := by
  unfold g_X1_pushed g_X1_pushed_b29
  refine w_isPerson C (fun _ => ⟨fun c => w_refused (fun _ => no (zero_of c) _ (C.fin Mv.rf 1)), fun c => ?_⟩)
  have c := one_of c
  have W := C.ws c.1
  have hn := W.ho.pm
  have bl := W.ho.bell
  have hp : 0 ≤ p ∧ p < r 5 := ⟨c.2.1, by omega⟩
  refine w_toCome W (fun h1 M W1 X HE RE e0 _ => ⟨W1.lx X.sh, ?_⟩)
  have E1 := W1.bs W1.loe X.sh
  have na := noAway W (W.q2 hp) HE e0 hp
  have fin := yes c _ ((C.mvW c.1 M W1).fin M 0)
  rw [show hA h1 (ev + 11) p = pusF (ppl r) (evT r st) (r 5).toNat p from X.br.push p hp.1 hp.2]
  exact ⟨(by first | omega | (unfold i32; omega)), w_well (fun _ => fin)⟩
theorem e_sum (C : CS h N hs o hb bb sa ev tr r st B) {what : Int} (no : ¬ (hs ≠ 0 ∧ 0 ≤ what ∧ what ≤ 5) → ∀ h', Fin3 N hs o hb bb sa ev tr r st B h h' 1 → Q (-1) h') (yes : hs ≠ 0 ∧ 0 ≤ what ∧ what ≤ 5 → ∀ h', Fin3 N hs o hb bb sa ev tr r st B h h' 0 → Q (sumF r (ppl r) (evT r st) (r 2) what) h') : g_X1_sum N what Q h := by
  unfold g_X1_sum g_X1_sum_b31 g_X1_sum_b36
  by_cases z : hs = 0
  · rw [C.no z]
    exact ⟨fun _ => w_refused (fun _ => no (fun y => y.1 z) _ (C.fin Mv.rf 1)), fun y => absurd y (by decide)⟩
  · have W := C.ws z
    have o1 := W.o1
    have bl := W.ho.bell
    rw [W.f5]
    refine ⟨fun y => absurd y (by omega), fun _ => c_in (fun _ => ⟨fun c => w_refused (fun _ => no (fun y => zero_of c y.2) _ (C.fin Mv.rf 1)), fun c => w_toCome W (fun h1 M W1 X HE RE e0 _ => ⟨W1.lx X.sh, w_sum (W1.bs W1.loe X.sh) X RE HE W.bb2 ⟨by omega, by omega⟩ (by omega) (fun _ => w_well (fun _ => yes ⟨z, one_of c⟩ _ ((C.mvW z M W1).fin M 0)))⟩)⟩)⟩
theorem e_served (C : CS h N hs o hb bb sa ev tr r st B) {i : Int} (no : ¬ (hs ≠ 0 ∧ 0 ≤ i ∧ i < evT r st 1) → ∀ h', Fin3 N hs o hb bb sa ev tr r st B h h' 1 → Q (-1) h') (yes : hs ≠ 0 ∧ 0 ≤ i ∧ i < evT r st 1 → ∀ h', Fin3 N hs o hb bb sa ev tr r st B h h' 0 → Q (evT r st (2 + i)) h') : g_X1_served N i Q h := by
  unfold g_X1_served g_X1_served_b38 g_X1_served_b43
  by_cases z : hs = 0
  · rw [C.no z]
    exact ⟨fun _ => w_refused (fun _ => no (fun y => y.1 z) _ (C.fin Mv.rf 1)), fun y => absurd y (by decide)⟩
  · have W := C.ws z
    have o1 := W.o1
    rw [W.f5]
    refine ⟨fun y => absurd y (by omega), fun _ => ⟨fun c => w_refused (fun _ => no (fun y => by omega) _ (C.fin Mv.rf 1)), fun c => w_toCome W (fun h1 M W1 X HE RE e0 _ => ⟨W1.lx X.sh, ?_⟩)⟩⟩
    have nu := HE.2.num
    rw [show hF h1 ev 25 = evT r st 1 from X.br.many, W1.f8]
    refine ⟨fun y => w_refused (fun _ => no (fun w => by omega) _ ((C.mvW z M W1).fin M 1)), fun y => ⟨W1.lx X.sh, (by first | omega | (unfold i32; omega)), ?_⟩⟩
    rw [show hA h1 (ev + 12) i = evT r st (2 + i) from X.br.served i c (by omega)]
    exact w_well (fun _ => yes ⟨z, c, y⟩ _ ((C.mvW z M W1).fin M 0))
end W
