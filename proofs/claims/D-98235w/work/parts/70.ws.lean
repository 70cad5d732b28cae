/-! LAYER 3: the component with a house: its world -/
/-- below an address, nothing but the desk has changed -/
def Lw (hb : Int) (h h' : Hp) : Prop := ∀ a : Int, a < hb → hT h a ≠ 0 → hT h a ≠ 11 → hT h' a = hT h a ∧ hL h' a = hL h a ∧ hF h' a = hF h a ∧ hA h' a = hA h a
theorem LsOK.lw {h h' : Hp} {l n hb : Int} (H : LsOK h l n hb) (L : Lw hb h h') (hl : l < hb) (t : hT h l = 32) : LsOK h' l n hb := by
  obtain ⟨h1, h2⟩ := H
  have e1 := (L l hl (by omega) (by omega)).2.2.1
  refine ⟨by rw [e1]; exact h1, fun hn => ?_⟩
  obtain ⟨h3, h4, h5⟩ := h2 hn
  rw [e1]
  have e2 := L _ h5 (by omega) (by omega)
  exact ⟨by rw [e2.1]; exact h3, by rw [e2.2.1]; exact h4, h5⟩
theorem el_lw {h h' : Hp} {l n hb i : Int} (H : LsOK h l n hb) (L : Lw hb h h') (hl : l < hb) (t : hT h l = 32) (hn : 0 < n) : el h' l i = el h l i := by
  obtain ⟨h3, h4, h5⟩ := H.2 hn
  unfold el
  rw [(L l hl (by omega) (by omega)).2.2.1, (L _ h5 (by omega) (by omega)).2.2.2]
theorem Lay_X17.lw {h h' : Hp} {a hb : Int} (H : Lay_X17 h a) (L : Lw hb h h') (ha : a + 1 < hb) : Lay_X17 h' a := by
  obtain ⟨h1, h2, h3, h4, h5⟩ := H
  have e1 := L a (by omega) (by omega) (by omega)
  have e2 := L (a + 1) ha (by omega) (by omega)
  exact ⟨h1, by rw [e1.1]; exact h2, by rw [e1.2.2.1]; exact h3, by rw [e2.1]; exact h4, by rw [e2.2.1]; exact h5⟩
theorem Lay_X7.lw {h h' : Hp} {a hb : Int} (H : Lay_X7 h a) (L : Lw hb h h') (ha : a + 4 < hb) : Lay_X7 h' a := by
  obtain ⟨h1, h2, ⟨a3, b3⟩, ⟨a4, b4⟩, ⟨a5, b5⟩, a6, b6⟩ := H
  have e0 := L a (by omega) (by omega) (by omega)
  exact ⟨h1, by rw [e0.1]; exact h2, ⟨by rw [e0.2.2.1]; exact a3, by rw [(L (a + 1) (by omega) (by omega) (by omega)).1]; exact b3⟩, ⟨by rw [e0.2.2.1]; exact a4, by rw [(L (a + 2) (by omega) (by omega) (by omega)).1]; exact b4⟩, ⟨by rw [e0.2.2.1]; exact a5, by rw [(L (a + 3) (by omega) (by omega) (by omega)).1]; exact b5⟩, by rw [e0.2.2.1]; exact a6, by rw [(L (a + 4) (by omega) (by omega) (by omega)).1]; exact b6⟩
theorem PerAt.lw {h h' : Hp} {a p hb : Int} {r : Int → Int} (H : PerAt h a r p hb) (hm : 0 ≤ r (41 + (7 * p + 0))) (L : Lw hb h h') : PerAt h' a r p hb := by
  obtain ⟨h1, h2, h3, h4, h5, h6, h7, ⟨m1, m2, m3⟩, h9⟩ := H
  have t0 : hT h a = 14 := h1.2.1
  have t1 : hT h (a + 1) = 1 := h1.2.2.2.1
  have e0 := (L a (by omega) (by omega) (by omega)).2.2.1
  have em := L _ m3 (by omega) (by omega)
  refine ⟨h1.lw L h2, h2, by rw [e0]; exact h3, by rw [e0]; exact h4, by rw [e0]; exact h5, by rw [e0]; exact h6, by rw [e0]; exact h7, ?_, fun d d1 d2 => by rw [(L (a + 1) h2 (by omega) (by omega)).2.2.2]; exact h9 d d1 d2⟩
  rw [e0]
  exact ⟨by rw [em.1]; exact m1, by rw [em.2.2.1]; exact m2, m3⟩
theorem HouseAt.lw {h h' : Hp} {o hb : Int} {r : Int → Int} (H : HouseAt h o r hb) (hm : ∀ p : Int, 0 ≤ p → p < r 5 → 0 ≤ r (41 + (7 * p + 0))) (L : Lw hb h h') : HouseAt h' o r hb := by
  have hl := H.low
  have t0 : hT h o = 12 := H.lay.2.1
  have t1 : hT h (o + 1) = 32 := (Lay_X7_3 H.lay).2
  have t2 : hT h (o + 2) = 32 := (Lay_X7_4 H.lay).2
  have t3 : hT h (o + 3) = 32 := (Lay_X7_5 H.lay).2
  have t4 : hT h (o + 4) = 32 := (Lay_X7_6 H.lay).2
  have e0 := (L o (by omega) (by omega) (by omega)).2.2.1
  refine ⟨H.lay.lw L hl, hl, by rw [e0]; exact H.long, by rw [e0]; exact H.bell, by rw [e0]; exact H.shel, H.ld.lw L (by omega) t1, H.ls.lw L (by omega) t2, H.lp.lw L (by omega) t3, H.lt.lw L hl t4, fun d d1 d2 => ?_, fun s d1 d2 => ?_, fun p d1 d2 => ?_, fun k d1 d2 => ?_⟩
  · obtain ⟨a1, a2, a3, a4, a5⟩ := H.drk d d1 d2
    rw [el_lw H.ld L (by omega) t1 (by omega)]
    have e := L _ a2 (by omega) (by omega)
    exact ⟨by rw [e.1]; exact a1, a2, by rw [e.2.2.1]; exact a3, by rw [e.2.2.1]; exact a4, by rw [e.2.2.1]; exact a5⟩
  · obtain ⟨a1, a2, a3, a4, a5, a6, a7, a8, a9⟩ := H.stf s d1 d2
    rw [el_lw H.ls L (by omega) t2 (by omega)]
    have e := L _ a2 (by omega) (by omega)
    have rb := rtag_b (r (23 + (6 * s + 0)))
    exact ⟨by rw [e.1]; exact a1, a2, by rw [e.2.2.1]; exact a3, by rw [e.2.2.1, (L _ a3 (by omega) (by omega)).1]; exact a4, by rw [e.2.2.1]; exact a5, by rw [e.2.2.1]; exact a6, by rw [e.2.2.1]; exact a7, by rw [e.2.2.1]; exact a8, by rw [e.2.2.1]; exact a9⟩
  · rw [el_lw H.lp L (by omega) t3 (by omega)]
    exact (H.ppl p d1 d2).lw (hm p d1 d2) L
  · obtain ⟨a1, a2, a3, a4, a5⟩ := H.tel k d1 d2
    rw [el_lw H.lt L (by omega) t4 (by omega)]
    have e := L _ a2 (by omega) (by omega)
    exact ⟨by rw [e.1]; exact a1, a2, by rw [e.2.2.1]; exact a3, by rw [e.2.2.1]; exact a4, by rw [e.2.2.1]; exact a5⟩
theorem barT_v (k : Nat) : barT k = 1 ∨ barT k = 3 ∨ barT k = 6 := by
  unfold barT
  split
  · exact Or.inr (Or.inl rfl)
  split
  · exact Or.inr (Or.inr rfl)
  · exact Or.inl rfl
/-- a cell of a bar's block, by its tag -/
theorem BS.in {h : Hp} {b o n a : Int} (S : BS h b o n) (h1 : b ≤ a) (h2 : a ≤ b + 21) : hT h a = 13 ∧ a = b ∨ hT h a = 1 ∨ hT h a = 3 ∨ hT h a = 6 := by
  by_cases e : a = b
  · exact Or.inl ⟨by rw [e]; exact S.tg, e⟩
  · have := (S.ar (a - b).toNat (by omega) (by omega)).1
    rw [show b + ((a - b).toNat : Int) = a by omega] at this
    have := barT_v (a - b).toNat
    omega
theorem BS.dj {h : Hp} {b b2 o o2 n n2 : Int} (S : BS h b o n) (S2 : BS h b2 o2 n2) (hne : b ≠ b2) : b + 21 < b2 ∨ b2 + 21 < b := by
  by_cases z : b ≤ b2 ∧ b2 ≤ b + 21
  · have := S.in z.1 z.2
    have := S2.tg
    omega
  · by_cases y : b2 ≤ b ∧ b ≤ b2 + 21
    · have := S2.in y.1 y.2
      have := S.tg
      omega
    · omega
theorem BS.out {h : Hp} {b o n a : Int} (S : BS h b o n) (t : hT h a ≠ 13 ∧ hT h a ≠ 1 ∧ hT h a ≠ 3 ∧ hT h a ≠ 6) : a < b ∨ b + 21 < a := by
  by_cases z : b ≤ a ∧ a ≤ b + 21
  · have := S.in z.1 z.2
    omega
  · omega
section PURE
variable {r c q row : Int → Int} {B : Int} {cm : Nat}
theorem HS_stN {n : Nat} {t : Int} (HO : HouseOK r) (C : CrewOK c) (hn : n = (r 5).toNat) (hB : 10000 ≤ B) (R : RowOK B row) (HH : HS q row n) : ∀ s : Nat, s ≤ 4 → HS q (stN r c q n t row s) n
  | 0, _ => HH
  | s + 1, hs => by
    have pm := HO.pm
    have ih := HS_stN (t := t) HO C hn hB R HH s (by omega)
    obtain ⟨R1, e1⟩ := stN_ok (q := q) (t := t) (n := n) (by omega) hB HO C R s (by omega)
    have hh := C.hands s (by omega) (by omega)
    simp only [stN]
    exact HS_hsN HO C hn hB ⟨by omega, by omega⟩ R1 ih t _ (by omega)
theorem HI_secF (HO : HouseOK r) (C : CrewOK c) (P : PplOK q) (hc : cm ≤ 4) (hB : 10000 ≤ B) (R : RowOK B row) (H : HI q row (r 5).toNat) (h9 : row 0 ≤ 900) : HI q (secF r c q cm row) (r 5).toNat := by
  have hn := HO.pm
  have n0 := R.now
  have hn5 : (r 5).toNat ≤ 10 := by omega
  have qb : ∀ p : Int, 0 ≤ p → p < ((r 5).toNat : Int) → 0 ≤ q (7 * p + 2) ∧ 0 ≤ q (7 * p + 4) := fun p p1 p2 => ⟨(P.comes p p1 (by omega)).1, (P.patience p p1 (by omega)).1⟩
  obtain ⟨R1, e1⟩ := psN_ok (q := q) hB R (t := row 0) ⟨by omega, by omega⟩ (r 5).toNat hn5
  obtain ⟨P1, W1, -, -, -⟩ := HI_psN hn5 qb H n0.1 (r 5).toNat (Nat.le_refl _)
  have HS1 : HS q (psN q (row 0) row (r 5).toNat) (r 5).toNat := by
    rw [HS, e1]
    refine ⟨fun p p1 p2 => ?_, ?_⟩
    · have := P1 p p1 p2
      rw [if_pos p2] at this; exact this
    · exact ⟨W1.num, W1.rng, fun k k1 k2 => ⟨(W1.isb k k1 k2).1, by have := (W1.isb k k1 k2).2; omega⟩, W1.all, W1.lst⟩
  have HS2 := HS_stN (t := row 0) HO C rfl hB R1 HS1 cm hc
  obtain ⟨R2, e2⟩ := stN_ok (q := q) (t := row 0) (n := (r 5).toNat) hn5 hB HO C R1 cm hc
  have T := HS2.tick.1
  rw [e2, e1] at T
  exact T
theorem HI_sec2 (HO : HouseOK r) (C : CrewOK c) (P : PplOK q) (hc : cm ≤ 4) (hB : 10000 ≤ B) (R : RowOK B row) (H : HI q row (r 5).toNat) : ∀ k : Nat, row 0 + k ≤ 901 → HI q (secN r c q cm k row) (r 5).toNat
  | 0, _ => H
  | k + 1, hk => by
    obtain ⟨R1, e1⟩ := secN_ok (q := q) hB HO C hc R k (by omega)
    exact HI_secF HO C P hc hB R1 (HI_sec2 HO C P hc hB R H k (by omega)) (by omega)
end PURE
/-- what a call that only looks may change: the desk's answers, the evening and the tried one; new cells -/
def Mv (N ev tr : Int) (h h' : Hp) : Prop := (∀ a : Int, hT h a ≠ 0 → hT h' a = hT h a ∧ hL h' a = hL h a) ∧ (∀ a : Int, hT h a ≠ 0 → a ≠ N → (a < ev ∨ ev + 21 < a) → (a < tr ∨ tr + 21 < a) → hF h' a = hF h a ∧ hA h' a = hA h a) ∧ (∀ k : Nat, k ≠ 3 → k ≠ 4 → k ≠ 10 → hF h' N k = hF h N k) ∧ (∀ k : Nat, hF h' 0 k = hF h 0 k) ∧ (hN h ≤ hN h' ∧ hS h ≤ hS h')
theorem Mv.tg {N ev tr : Int} {h h' : Hp} (H : Mv N ev tr h h') : ∀ a : Int, hT h a ≠ 0 → hT h' a = hT h a ∧ hL h' a = hL h a := H.1
theorem Mv.fr {N ev tr : Int} {h h' : Hp} (H : Mv N ev tr h h') : ∀ a : Int, hT h a ≠ 0 → a ≠ N → (a < ev ∨ ev + 21 < a) → (a < tr ∨ tr + 21 < a) → hF h' a = hF h a ∧ hA h' a = hA h a := H.2.1
theorem Mv.nf {N ev tr : Int} {h h' : Hp} (H : Mv N ev tr h h') : ∀ k : Nat, k ≠ 3 → k ≠ 4 → k ≠ 10 → hF h' N k = hF h N k := H.2.2.1
theorem Mv.c0 {N ev tr : Int} {h h' : Hp} (H : Mv N ev tr h h') : ∀ k : Nat, hF h' 0 k = hF h 0 k := H.2.2.2.1
theorem Mv.n1 {N ev tr : Int} {h h' : Hp} (H : Mv N ev tr h h') : hN h ≤ hN h' ∧ hS h ≤ hS h' := H.2.2.2.2
theorem Mv.rf {N ev tr : Int} {h : Hp} : Mv N ev tr h h := ⟨fun _ _ => ⟨rfl, rfl⟩, fun _ _ _ _ _ => ⟨rfl, rfl⟩, fun _ _ _ _ => rfl, fun _ => rfl, ⟨Int.le_refl _, Int.le_refl _⟩⟩
theorem Mv.tr {N ev tr : Int} {h h1 h2 : Hp} (a : Mv N ev tr h h1) (b : Mv N ev tr h1 h2) : Mv N ev tr h h2 := by
  refine ⟨fun x hx => ?_, fun x hx hn he ht => ?_, fun k k3 k4 k10 => (b.nf k k3 k4 k10).trans (a.nf k k3 k4 k10), fun k => (b.c0 k).trans (a.c0 k), ⟨Int.le_trans a.n1.1 b.n1.1, Int.le_trans a.n1.2 b.n1.2⟩⟩
  · have e := a.tg x hx
    have e2 := b.tg x (by rw [e.1]; exact hx)
    exact ⟨e2.1.trans e.1, e2.2.trans e.2⟩
  · have e := a.tg x hx
    have f := a.fr x hx hn he ht
    have f2 := b.fr x (by rw [e.1]; exact hx) hn he ht
    exact ⟨f2.1.trans f.1, f2.2.trans f.2⟩
theorem Mv.lw {N ev tr hb : Int} {h h' : Hp} (M : Mv N ev tr h h') (t : hT h N = 11) (l1 : hb ≤ ev) (l2 : hb ≤ tr) : Lw hb h h' := fun a ha h0 h11 => by
  have f := M.fr a h0 (fun e => h11 (by rw [e]; exact t)) (Or.inl (by omega)) (Or.inl (by omega))
  exact ⟨(M.tg a h0).1, (M.tg a h0).2, f.1, f.2⟩
theorem Mv.same {N ev tr b o n o1 n1 o2 n2 : Int} {h h' : Hp} (M : Mv N ev tr h h') (t : hT h N = 11) (S : BS h b o n) (Se : BS h ev o1 n1) (St : BS h tr o2 n2) (e1 : b ≠ ev) (e2 : b ≠ tr) : Same b 21 h h' := fun a a1 a2 => by
  have d1 := S.dj Se e1
  have d2 := S.dj St e2
  have i := S.in a1 a2
  have h0 : hT h a ≠ 0 := by omega
  have f := M.fr a h0 (fun e => by rw [e, t] at i; omega) (by omega) (by omega)
  exact ⟨(M.tg a h0).1, (M.tg a h0).2, f.1, f.2⟩
theorem Mv.setN {N ev tr : Int} {h : Hp} {k : Nat} {v : Int} (hk : k = 3 ∨ k = 4 ∨ k = 10) (h1 : 1 ≤ N) : Mv N ev tr h (setF h N k v) := by
  refine ⟨fun _ _ => ⟨rfl, rfl⟩, fun a _ hn _ _ => ⟨funext (fun j => if_neg (fun z => hn z.1)), rfl⟩, fun j j3 j4 j10 => if_neg (fun z => by omega), fun j => if_neg (fun z => by omega), ⟨Int.le_refl _, Int.le_refl _⟩⟩
theorem Mv.blkT {N ev tr b : Int} {h : Hp} {F : Nat → Int} {A : Int → Int → Int} (hb : b = ev ∨ b = tr) (h1 : 1 ≤ b) (hn : N ≠ b) : Mv N ev tr h (blk h b 21 F A) := by
  refine ⟨fun _ _ => ⟨rfl, rfl⟩, fun a _ _ he ht => ⟨funext (fun k => blk_Fo (by omega) k), funext (fun j => blk_Ao (by omega) j)⟩, fun k _ _ _ => blk_Fo hn k, fun k => blk_Fo (by omega) k, ⟨Int.le_refl _, Int.le_refl _⟩⟩
def WS (h : Hp) (N o hb bb sa ev tr : Int) (r st : Int → Int) (B : Int) : Prop := (hF h N 5 = o) ∧ (hF h N 6 = bb) ∧ (hF h N 7 = sa) ∧ (hF h N 8 = ev) ∧ (hF h N 9 = tr) ∧ (hT h N = 11) ∧ (1 ≤ o) ∧ (1 ≤ N) ∧ (N + 5 < hb) ∧ (HouseOK r) ∧ (∀ s : Int, 0 ≤ s → s < r 4 → 1 ≤ r (23 + (6 * s + 5))) ∧ (HouseAt h o r hb) ∧ (∀ p : Int, 0 ≤ p → p < r 5 → r (41 + (7 * p + 2)) ≤ r 2) ∧ (BX h bb o r (crw r) (ppl r) st (r 4).toNat (r 2)) ∧ (BX h sa o r (crw r) (ppl r) (lfS (ppl r) (crw r) (r 5).toNat (r 4).toNat) (r 4).toNat (r 2)) ∧ (BS h ev o (r 5)) ∧ (BS h tr o (r 5)) ∧ (hb ≤ bb) ∧ (hb ≤ sa) ∧ (hb ≤ ev) ∧ (hb ≤ tr) ∧ (bb ≠ ev) ∧ (bb ≠ tr) ∧ (sa ≠ ev) ∧ (sa ≠ tr) ∧ (ev ≠ tr) ∧ (RowOK B st) ∧ (10000 ≤ B ∧ B ≤ 100000) ∧ (HI (ppl r) st (r 5).toNat) ∧ (st 0 ≤ r 2 + 1) ∧ (hF h N 10 ≠ 0 → BX h ev o r (crw r) (ppl r) (evT r st) (r 4).toNat (r 2))
theorem WS.f5 {h : Hp} {N o hb bb sa ev tr : Int} {r st : Int → Int} {B : Int} (H : WS h N o hb bb sa ev tr r st B) : hF h N 5 = o := H.1
theorem WS.f6 {h : Hp} {N o hb bb sa ev tr : Int} {r st : Int → Int} {B : Int} (H : WS h N o hb bb sa ev tr r st B) : hF h N 6 = bb := H.2.1
theorem WS.f7 {h : Hp} {N o hb bb sa ev tr : Int} {r st : Int → Int} {B : Int} (H : WS h N o hb bb sa ev tr r st B) : hF h N 7 = sa := H.2.2.1
theorem WS.f8 {h : Hp} {N o hb bb sa ev tr : Int} {r st : Int → Int} {B : Int} (H : WS h N o hb bb sa ev tr r st B) : hF h N 8 = ev := H.2.2.2.1
theorem WS.f9 {h : Hp} {N o hb bb sa ev tr : Int} {r st : Int → Int} {B : Int} (H : WS h N o hb bb sa ev tr r st B) : hF h N 9 = tr := H.2.2.2.2.1
theorem WS.tn {h : Hp} {N o hb bb sa ev tr : Int} {r st : Int → Int} {B : Int} (H : WS h N o hb bb sa ev tr r st B) : hT h N = 11 := H.2.2.2.2.2.1
theorem WS.o1 {h : Hp} {N o hb bb sa ev tr : Int} {r st : Int → Int} {B : Int} (H : WS h N o hb bb sa ev tr r st B) : 1 ≤ o := H.2.2.2.2.2.2.1
theorem WS.np {h : Hp} {N o hb bb sa ev tr : Int} {r st : Int → Int} {B : Int} (H : WS h N o hb bb sa ev tr r st B) : 1 ≤ N := H.2.2.2.2.2.2.2.1
theorem WS.nb {h : Hp} {N o hb bb sa ev tr : Int} {r st : Int → Int} {B : Int} (H : WS h N o hb bb sa ev tr r st B) : N + 5 < hb := H.2.2.2.2.2.2.2.2.1
theorem WS.ho {h : Hp} {N o hb bb sa ev tr : Int} {r st : Int → Int} {B : Int} (H : WS h N o hb bb sa ev tr r st B) : HouseOK r := H.2.2.2.2.2.2.2.2.2.1
theorem WS.h1 {h : Hp} {N o hb bb sa ev tr : Int} {r st : Int → Int} {B : Int} (H : WS h N o hb bb sa ev tr r st B) : ∀ s : Int, 0 ≤ s → s < r 4 → 1 ≤ r (23 + (6 * s + 5)) := H.2.2.2.2.2.2.2.2.2.2.1
theorem WS.ha {h : Hp} {N o hb bb sa ev tr : Int} {r st : Int → Int} {B : Int} (H : WS h N o hb bb sa ev tr r st B) : HouseAt h o r hb := H.2.2.2.2.2.2.2.2.2.2.2.1
theorem WS.cb {h : Hp} {N o hb bb sa ev tr : Int} {r st : Int → Int} {B : Int} (H : WS h N o hb bb sa ev tr r st B) : ∀ p : Int, 0 ≤ p → p < r 5 → r (41 + (7 * p + 2)) ≤ r 2 := H.2.2.2.2.2.2.2.2.2.2.2.2.1
theorem WS.bar {h : Hp} {N o hb bb sa ev tr : Int} {r st : Int → Int} {B : Int} (H : WS h N o hb bb sa ev tr r st B) : BX h bb o r (crw r) (ppl r) st (r 4).toNat (r 2) := H.2.2.2.2.2.2.2.2.2.2.2.2.2.1
theorem WS.sta {h : Hp} {N o hb bb sa ev tr : Int} {r st : Int → Int} {B : Int} (H : WS h N o hb bb sa ev tr r st B) : BX h sa o r (crw r) (ppl r) (lfS (ppl r) (crw r) (r 5).toNat (r 4).toNat) (r 4).toNat (r 2) := H.2.2.2.2.2.2.2.2.2.2.2.2.2.2.1
theorem WS.evs {h : Hp} {N o hb bb sa ev tr : Int} {r st : Int → Int} {B : Int} (H : WS h N o hb bb sa ev tr r st B) : BS h ev o (r 5) := H.2.2.2.2.2.2.2.2.2.2.2.2.2.2.2.1
theorem WS.trs {h : Hp} {N o hb bb sa ev tr : Int} {r st : Int → Int} {B : Int} (H : WS h N o hb bb sa ev tr r st B) : BS h tr o (r 5) := H.2.2.2.2.2.2.2.2.2.2.2.2.2.2.2.2.1
theorem WS.lob {h : Hp} {N o hb bb sa ev tr : Int} {r st : Int → Int} {B : Int} (H : WS h N o hb bb sa ev tr r st B) : hb ≤ bb := H.2.2.2.2.2.2.2.2.2.2.2.2.2.2.2.2.2.1
theorem WS.los {h : Hp} {N o hb bb sa ev tr : Int} {r st : Int → Int} {B : Int} (H : WS h N o hb bb sa ev tr r st B) : hb ≤ sa := H.2.2.2.2.2.2.2.2.2.2.2.2.2.2.2.2.2.2.1
theorem WS.loe {h : Hp} {N o hb bb sa ev tr : Int} {r st : Int → Int} {B : Int} (H : WS h N o hb bb sa ev tr r st B) : hb ≤ ev := H.2.2.2.2.2.2.2.2.2.2.2.2.2.2.2.2.2.2.2.1
theorem WS.lot {h : Hp} {N o hb bb sa ev tr : Int} {r st : Int → Int} {B : Int} (H : WS h N o hb bb sa ev tr r st B) : hb ≤ tr := H.2.2.2.2.2.2.2.2.2.2.2.2.2.2.2.2.2.2.2.2.1
theorem WS.nbe {h : Hp} {N o hb bb sa ev tr : Int} {r st : Int → Int} {B : Int} (H : WS h N o hb bb sa ev tr r st B) : bb ≠ ev := H.2.2.2.2.2.2.2.2.2.2.2.2.2.2.2.2.2.2.2.2.2.1
theorem WS.nbt {h : Hp} {N o hb bb sa ev tr : Int} {r st : Int → Int} {B : Int} (H : WS h N o hb bb sa ev tr r st B) : bb ≠ tr := H.2.2.2.2.2.2.2.2.2.2.2.2.2.2.2.2.2.2.2.2.2.2.1
theorem WS.nse {h : Hp} {N o hb bb sa ev tr : Int} {r st : Int → Int} {B : Int} (H : WS h N o hb bb sa ev tr r st B) : sa ≠ ev := H.2.2.2.2.2.2.2.2.2.2.2.2.2.2.2.2.2.2.2.2.2.2.2.1
theorem WS.nst {h : Hp} {N o hb bb sa ev tr : Int} {r st : Int → Int} {B : Int} (H : WS h N o hb bb sa ev tr r st B) : sa ≠ tr := H.2.2.2.2.2.2.2.2.2.2.2.2.2.2.2.2.2.2.2.2.2.2.2.2.1
theorem WS.net {h : Hp} {N o hb bb sa ev tr : Int} {r st : Int → Int} {B : Int} (H : WS h N o hb bb sa ev tr r st B) : ev ≠ tr := H.2.2.2.2.2.2.2.2.2.2.2.2.2.2.2.2.2.2.2.2.2.2.2.2.2.1
theorem WS.ro {h : Hp} {N o hb bb sa ev tr : Int} {r st : Int → Int} {B : Int} (H : WS h N o hb bb sa ev tr r st B) : RowOK B st := H.2.2.2.2.2.2.2.2.2.2.2.2.2.2.2.2.2.2.2.2.2.2.2.2.2.2.1
theorem WS.bb2 {h : Hp} {N o hb bb sa ev tr : Int} {r st : Int → Int} {B : Int} (H : WS h N o hb bb sa ev tr r st B) : 10000 ≤ B ∧ B ≤ 100000 := H.2.2.2.2.2.2.2.2.2.2.2.2.2.2.2.2.2.2.2.2.2.2.2.2.2.2.2.1
theorem WS.hi {h : Hp} {N o hb bb sa ev tr : Int} {r st : Int → Int} {B : Int} (H : WS h N o hb bb sa ev tr r st B) : HI (ppl r) st (r 5).toNat := H.2.2.2.2.2.2.2.2.2.2.2.2.2.2.2.2.2.2.2.2.2.2.2.2.2.2.2.2.1
theorem WS.nw {h : Hp} {N o hb bb sa ev tr : Int} {r st : Int → Int} {B : Int} (H : WS h N o hb bb sa ev tr r st B) : st 0 ≤ r 2 + 1 := H.2.2.2.2.2.2.2.2.2.2.2.2.2.2.2.2.2.2.2.2.2.2.2.2.2.2.2.2.2.1
theorem WS.kn {h : Hp} {N o hb bb sa ev tr : Int} {r st : Int → Int} {B : Int} (H : WS h N o hb bb sa ev tr r st B) : hF h N 10 ≠ 0 → BX h ev o r (crw r) (ppl r) (evT r st) (r 4).toNat (r 2) := H.2.2.2.2.2.2.2.2.2.2.2.2.2.2.2.2.2.2.2.2.2.2.2.2.2.2.2.2.2.2
section W
variable {h h' : Hp} {N o hb bb sa ev tr : Int} {r st : Int → Int} {B : Int} {Q : Int → Hp → Prop} {Qv : Hp → Prop}
theorem WS.mv (W : WS h N o hb bb sa ev tr r st B) (M : Mv N ev tr h h') (Se : BS h' ev o (r 5)) (St : BS h' tr o (r 5)) (k : hF h' N 10 ≠ 0 → BX h' ev o r (crw r) (ppl r) (evT r st) (r 4).toNat (r 2)) : WS h' N o hb bb sa ev tr r st B := by
  have t : ∀ a : Int, hT h a ≠ 0 → hT h' a = hT h a := fun a ha => (M.tg a ha).1
  refine ⟨by rw [M.nf 5 (by decide) (by decide) (by decide)]; exact W.f5, by rw [M.nf 6 (by decide) (by decide) (by decide)]; exact W.f6, by rw [M.nf 7 (by decide) (by decide) (by decide)]; exact W.f7, by rw [M.nf 8 (by decide) (by decide) (by decide)]; exact W.f8, by rw [M.nf 9 (by decide) (by decide) (by decide)]; exact W.f9, by rw [t N (by rw [W.tn]; decide)]; exact W.tn, W.o1, W.np, W.nb, W.ho, W.h1, ?_, W.cb, W.bar.same (M.same W.tn W.bar.sh W.evs W.trs W.nbe W.nbt) t, W.sta.same (M.same W.tn W.sta.sh W.evs W.trs W.nse W.nst) t, Se, St, W.lob, W.los, W.loe, W.lot, W.nbe, W.nbt, W.nse, W.nst, W.net, W.ro, W.bb2, W.hi, W.nw, k⟩
  exact W.ha.lw (fun p p1 p2 => (W.ho.manner p p1 (by have := W.ho.pm; omega)).1) (M.lw W.tn W.loe W.lot)
theorem WS.setN (W : WS h N o hb bb sa ev tr r st B) {k : Nat} {v : Int} (hk : k = 3 ∨ k = 4) : WS (setF h N k v) N o hb bb sa ev tr r st B := by
  have M : Mv N ev tr h (setF h N k v) := Mv.setN (by omega) W.np
  have s : ∀ b : Int, hb ≤ b → Same b 21 h (setF h N k v) := fun b hb1 a a1 a2 => ⟨rfl, rfl, funext (fun j => if_neg (fun z => by have := W.nb; omega)), rfl⟩
  refine W.mv M (W.evs.same (s ev W.loe)) (W.trs.same (s tr W.lot)) (fun z => ?_)
  rw [show hF (setF h N k v) N 10 = hF h N 10 from if_neg (fun y => by omega)] at z
  exact (W.kn z).same (s ev W.loe) (fun _ _ => rfl)
theorem WS.cr (W : WS h N o hb bb sa ev tr r st B) : CrewOK (crw r) ∧ PplOK (ppl r) := ⟨(crw_as W.ho).1, (ppl_as W.ho).1⟩
theorem ppl_q {r : Int → Int} {p i : Int} (h5 : r 5 ≤ 10) (hp : 0 ≤ p ∧ p < r 5) (hi : 0 ≤ i ∧ i < 7) : ppl r (7 * p + i) = r (41 + (7 * p + i)) := by
  unfold ppl; rw [if_pos (by omega)]
theorem WS.be (W : WS h N o hb bb sa ev tr r st B) {b : Int} {c q row : Int → Int} {cm : Nat} {bell : Int} (lo : hb ≤ b) (S : BS h b o (r 5)) (C : CrewOK c) (P : PplOK q) (qr : ∀ p : Int, 0 ≤ p → p < r 5 → q (7 * p + 2) = r (41 + (7 * p + 2)) ∧ q (7 * p + 4) = r (41 + (7 * p + 4))) (h4 : cm ≤ 4) : BE h b o hb r c q cm :=
  ⟨W.ho, W.ha, lo, fun F A hl => lay21 S.pos S.tg S.ar F A hl, C, P, qr, h4⟩
theorem WS.bs (W : WS h N o hb bb sa ev tr r st B) {b : Int} (lo : hb ≤ b) (S : BS h b o (r 5)) : BE h b o hb r (crw r) (ppl r) (r 4).toNat := by
  have h5 := W.ho.pm
  have h4 := W.ho.sm
  exact W.be (row := st) (bell := r 2) lo S W.cr.1 W.cr.2 (fun p p1 p2 => ⟨ppl_q (by omega) ⟨p1, p2⟩ ⟨by omega, by omega⟩, ppl_q (by omega) ⟨p1, p2⟩ ⟨by omega, by omega⟩⟩) (by omega)
/-- an evening or a tried one, written anew -/
theorem WS.wrE (W : WS h N o hb bb sa ev tr r st B) {F : Nat → Int} {A : Int → Int → Int} {row : Int → Int} {bell : Int} (V : BR h ev o r (crw r) (ppl r) row (r 4).toNat F A) (fb : F 26 = bell) (hk : hF h N 10 = 0) : WS (blk h ev 21 F A) N o hb bb sa ev tr r st B ∧ Mv N ev tr h (blk h ev 21 F A) ∧ BX (blk h ev 21 F A) ev o r (crw r) (ppl r) row (r 4).toNat bell := by
  have p := W.evs.pos
  have hne : N ≠ ev := by have := W.nb; have := W.loe; omega
  have M : Mv N ev tr h (blk h ev 21 F A) := Mv.blkT (Or.inl rfl) p hne
  have X := BX.at p W.evs.tg W.evs.ar V fb
  refine ⟨W.mv M X.sh (W.trs.same (Same.blk1 (W.trs.dj W.evs (fun z => W.net z.symm)) (by omega))) (fun z => ?_), M, X⟩
  rw [blk_Fo hne] at z
  exact absurd hk z
theorem WS.wrT (W : WS h N o hb bb sa ev tr r st B) {F : Nat → Int} {A : Int → Int → Int} {c q row : Int → Int} {cm : Nat} {bell : Int} (V : BR h tr o r c q row cm F A) (fb : F 26 = bell) : WS (blk h tr 21 F A) N o hb bb sa ev tr r st B ∧ Mv N ev tr h (blk h tr 21 F A) ∧ BX (blk h tr 21 F A) tr o r c q row cm bell := by
  have p := W.trs.pos
  have hne : N ≠ tr := by have := W.nb; have := W.lot; omega
  have M : Mv N ev tr h (blk h tr 21 F A) := Mv.blkT (Or.inr rfl) p hne
  have X := BX.at p W.trs.tg W.trs.ar V fb
  have sm : Same ev 21 h (blk h tr 21 F A) := Same.blk1 (W.evs.dj W.trs W.net) (by omega)
  refine ⟨W.mv M (W.evs.same sm) X.sh (fun z => ?_), M, X⟩
  rw [blk_Fo hne] at z
  exact (W.kn z).same sm (fun _ _ => rfl)
theorem WS.lx (W : WS h N o hb bb sa ev tr r st B) {b : Int} (S : BS h b o (r 5)) : Lay_X21 h b := by
  have L := lay21 S.pos S.tg S.ar (BF h b) (BA h b) S.lay
  rw [← blk_self] at L
  exact L
theorem w_well {v : Int} (hq : Q v (setF (setF h N 4 0) N 3 (-1))) : g_X1_well N v Q h := by
  unfold g_X1_well
  rintro m2 rfl m7 rfl
  exact hq
theorem w_refused {t : Int} (hq : Q (-1) (setF (setF h N 4 t) N 3 (-1))) : g_X1_refused N t Q h := by
  unfold g_X1_refused
  rintro m2 rfl m7 rfl
  exact hq
theorem w_takes {b x : Int} {c q row : Int → Int} {cm : Nat} {bell : Int} (hn : r 5 ≤ 10 ∧ 0 ≤ r 5) (h4 : cm ≤ 4) (S : BS h b o (r 5)) (X : BX h x o r c q row cm bell) (hne : b ≠ x) (hq : ∀ F A, BR h b o r c q row cm F A → F 26 = bell → Qv (blk h b 21 F A)) : g_X21_takes b x Qv h := by
  have d := X.sh.dj S (fun z => hne z.symm)
  have L : Lay_X21 (blk h b 21 (BF h b) (BA h b)) x := by
    have L := lay21 X.sh.pos X.sh.tg X.sh.ar (BF h x) (BA h x) X.sh.lay
    rw [← blk_self] at L
    rw [← blk_self]
    exact L
  obtain ⟨V2, e2⟩ := X.takes (b := b) (F := BF h b) (A := BA h b) hn h4 S.lay S.house S.pn
  have g := c_takes (Qv := Qv) (F := BF h b) (A := BA h b) d L X.br.rg X.br.rl (hq _ _ V2 e2)
  rw [← blk_self] at g
  exact g
theorem w_evening {b bell : Int} {c q row : Int → Int} {cm : Nat} (E : BE h b o hb r c q cm) (X : BX h b o r c q row cm bell) (R : RowOK B row) (HH : HI q row (r 5).toNat) (hB : 10000 ≤ B ∧ B ≤ 100000) (hbl : 0 ≤ bell ∧ bell ≤ 900)
    (hq : ∀ F' A', BR h b o r c q (evF r c q cm bell row) cm F' A' → HI q (evF r c q cm bell row) (r 5).toNat → F' 26 = bell → Q b (blk h b 21 F' A')) : g_X21_evening b Q h := by
  have g := c_evening (Q := Q) (F := BF h b) (A := BA h b) E X.br R HH hB (by show 0 ≤ hF h b 26 ∧ hF h b 26 ≤ 900; rw [X.bl]; exact hbl) (fun F' A' V H f => by
    have e : BF h b 26 = bell := X.bl
    rw [e] at V H f
    exact hq F' A' V H f)
  rw [← blk_self] at g
  exact g
theorem w_toCome (W : WS h N o hb bb sa ev tr r st B) (hq : ∀ h', Mv N ev tr h h' → WS h' N o hb bb sa ev tr r st B → BX h' ev o r (crw r) (ppl r) (evT r st) (r 4).toNat (r 2) → HI (ppl r) (evT r st) (r 5).toNat → RowOK B (evT r st) → evT r st 0 = r 2 + 1 → Q ev h') : g_X1_toCome N Q h := by
  have h5 := W.ho.pm
  have h4 := W.ho.sm
  have bl := W.ho.bell
  have n0 := W.ro.now
  have nw := W.nw
  obtain ⟨RE, e0⟩ := evF_ok (q := ppl r) (cm := (r 4).toNat) (bell := r 2) W.bb2.1 W.ho W.cr.1 (by omega) ⟨by omega, by omega⟩ W.ro
  have e0 : evT r st 0 = r 2 + 1 := by
    show evF r (crw r) (ppl r) (r 4).toNat (r 2) st 0 = _
    rw [e0]; split <;> omega
  have hne : N ≠ ev := by have := W.nb; have := W.loe; omega
  -- the history of the evening, whether laid now or before
  have HE : HI (ppl r) (evT r st) (r 5).toNat := by
    exact HI_sec2 W.ho W.cr.1 W.cr.2 (by omega) W.bb2.1 W.ro W.hi _ (by omega)
  unfold g_X1_toCome g_X1_toCome_b31
  rw [W.f8, W.f6]
  refine ⟨fun c => hq h Mv.rf W (W.kn c) HE RE e0, fun c => ⟨W.lx W.evs, w_takes ⟨by omega, by omega⟩ (by omega) W.evs W.bar (fun z => W.nbe z.symm) (fun F A V f _ => ?_)⟩⟩
  obtain ⟨W1, M1, X1⟩ := W.wrE V f c
  rw [show hF (blk h ev 21 F A) N 8 = ev from (blk_Fo hne 8).trans W.f8]
  have E1 := W1.bs W1.loe X1.sh
  refine ⟨W1.lx X1.sh, w_evening E1 X1 W.ro W.hi W.bb2 ⟨by omega, by omega⟩ (fun F' A' V' H' f' _ => ?_)⟩
  rintro m28 rfl
  have k1 : hF (blk h ev 21 F A) N 10 = 0 := (blk_Fo hne 10).trans c
  obtain ⟨W2, M2, X2⟩ := W1.wrE V' f' k1
  have M3 : Mv N ev tr (blk (blk h ev 21 F A) ev 21 F' A') (setF (blk (blk h ev 21 F A) ev 21 F' A') N 10 1) := Mv.setN (by omega) W.np
  have s : ∀ b : Int, hb ≤ b → Same b 21 (blk (blk h ev 21 F A) ev 21 F' A') (setF (blk (blk h ev 21 F A) ev 21 F' A') N 10 1) := fun b hb1 a a1 a2 => ⟨rfl, rfl, funext (fun j => if_neg (fun z => by have := W.nb; omega)), rfl⟩
  have X3 := X2.same (s ev W.loe) (fun _ _ => rfl)
  have W3 := W2.mv M3 X3.sh (W2.trs.same (s tr W.lot)) (fun _ => X3)
  rw [show hF (setF (blk (blk h ev 21 F A) ev 21 F' A') N 10 1) N 8 = ev from W3.f8]
  exact hq _ ((M1.tr M2).tr M3) W3 X3 HE RE e0
theorem w_tries (W : WS h N o hb bb sa ev tr r st B) (hq : ∀ h', Mv N ev tr h h' → WS h' N o hb bb sa ev tr r st B → BX h' tr o r (crw r) (ppl r) st (r 4).toNat (r 2) → Q tr h') : g_X1_tries N Q h := by
  have h5 := W.ho.pm
  have h4 := W.ho.sm
  unfold g_X1_tries
  rw [W.f9, W.f6]
  refine ⟨W.lx W.trs, w_takes ⟨by omega, by omega⟩ (by omega) W.trs W.bar (fun z => W.nbt z.symm) (fun F A V f _ => ?_)⟩
  obtain ⟨W1, M1, X1⟩ := W.wrT V f
  rw [W1.f9]
  exact hq _ M1 W1 X1
end W
